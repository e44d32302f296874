/-! looks(III)Z -/
def M_looks_w32 (post : Int32 → MS → Prop) (v0 : Int32) (S : MS) : Prop :=
  (zok v0 ∧ post v0 S)
set_option maxHeartbeats 4000000 in
set_option maxRecDepth 100000 in
theorem M_looks_a32 {p : Program} {l : Launch} {e : Env} {s : State} {m : MethodId} {args : Array Value} {below : List Frame} {meth : Method} {c : Code} {D : va_G} {dA : Nat → ClassId} {o : Nat → Nat} {A : Nat → Prop} {post : Int32 → MS → Prop} (C : mC p m c cX5_looks 4 s args meth (Option.some Jvm.ClassFile.FieldType.boolean) A) {v0 : Int32} {S : MS} (h : M_looks_w32 post v0 S) {H : Heap} {locs : List Loc} {ls : Array Slot} (hl : lv_has ls 4 [(0, .ref (o 0))]) (w : mw D dA o A s S H locs) : W p l e rM_looks s m args below meth c H locs 0 0 (mQi below args s D dA o A post) (F0 m 32 ls [.int v0]) := by
  unfold M_looks_w32 at h
  obtain ⟨⟨hx, hb, hml, hown, hts⟩, hr, hlk, hA⟩ := id C
  exact mr_zret C w (zok_n h.1) h.2 dX5_looks_32
def M_looks_w27 (post : Int32 → MS → Prop) (S : MS) : Prop :=
  M_looks_w32 post (1 : Int32) S
set_option maxHeartbeats 4000000 in
set_option maxRecDepth 100000 in
theorem M_looks_a27 {p : Program} {l : Launch} {e : Env} {s : State} {m : MethodId} {args : Array Value} {below : List Frame} {meth : Method} {c : Code} {D : va_G} {dA : Nat → ClassId} {o : Nat → Nat} {A : Nat → Prop} {post : Int32 → MS → Prop} (C : mC p m c cX5_looks 4 s args meth (Option.some Jvm.ClassFile.FieldType.boolean) A) {S : MS} (h : M_looks_w27 post S) {H : Heap} {locs : List Loc} {ls : Array Slot} (hl : lv_has ls 4 [(0, .ref (o 0))]) (w : mw D dA o A s S H locs) : W p l e rM_looks s m args below meth c H locs 0 0 (mQi below args s D dA o A post) (F0 m 27 ls []) := by
  unfold M_looks_w27 at h
  obtain ⟨⟨hx, hb, hml, hown, hts⟩, hr, hlk, hA⟩ := id C
  refine lv_iconst (v := 1) hx hb dX5_looks_27 (by decide) ?_
  refine lv_goto (tgt := 32) hx hb dX5_looks_28 (by decide) ?_
  exact M_looks_a32 C h (lv_sub hl [0] rfl) w
def M_looks_w0 (post : Int32 → MS → Prop) (x1 : Int32) (x2 : Int32) (x3 : Int32) (S : MS) : Prop :=
  (vp_in (((7 : Int32) * (x1 / (4 : Int32))) + x2) 21 ∧ ((x3 < (gI S 3 ((((7 : Int32) * (x1 / (4 : Int32))) + x2)).toNatClampNeg) → M_looks_w27 post S) ∧ (¬ x3 < (gI S 3 ((((7 : Int32) * (x1 / (4 : Int32))) + x2)).toNatClampNeg) → ((x2 = 0 → M_looks_w27 post S) ∧ (¬ x2 = 0 → ((¬ (x1 - x1 / (4 : Int32) * (4 : Int32)) = 0 → M_looks_w32 post (0 : Int32) S) ∧ ((x1 - x1 / (4 : Int32) * (4 : Int32)) = 0 → M_looks_w27 post S)))))))
set_option maxHeartbeats 4000000 in
set_option maxRecDepth 100000 in
theorem M_looks_a0 {p : Program} {l : Launch} {e : Env} {s : State} {m : MethodId} {args : Array Value} {below : List Frame} {meth : Method} {c : Code} {D : va_G} {dA : Nat → ClassId} {o : Nat → Nat} {A : Nat → Prop} {post : Int32 → MS → Prop} (C : mC p m c cX5_looks 4 s args meth (Option.some Jvm.ClassFile.FieldType.boolean) A) {x1 : Int32} {x2 : Int32} {x3 : Int32} {S : MS} (h : M_looks_w0 post x1 x2 x3 S) {H : Heap} {locs : List Loc} {ls : Array Slot} (hl : lv_has ls 4 [(0, .ref (o 0)), (1, .int x1), (2, .int x2), (3, .int x3)]) (w : mw D dA o A s S H locs) : W p l e rM_looks s m args below meth c H locs 0 0 (mQi below args s D dA o A post) (F0 m 0 ls []) := by
  unfold M_looks_w0 at h
  obtain ⟨⟨hx, hb, hml, hown, hts⟩, hr, hlk, hA⟩ := id C
  refine lv_iload_n hx hb dX5_looks_0 rfl (lv_at hl 3 rfl) ?_
  refine lv_aload_n hx hb dX5_looks_1 rfl (lv_at hl 0 rfl) ?_
  refine mr_get C w 3 (by decide) q580 rfl rfl dX5_looks_2 ?_
  refine lv_bipush (v := 7) hx hb dX5_looks_5 (by decide) ?_
  refine lv_iload_n hx hb dX5_looks_7 rfl (lv_at hl 1 rfl) ?_
  refine lv_iconst (v := 4) hx hb dX5_looks_8 (by decide) ?_
  refine lv_idiv hx hb dX5_looks_9 (by decide) ?_
  refine lv_imul hx hb dX5_looks_10 ?_
  refine lv_iload_n hx hb dX5_looks_11 rfl (lv_at hl 2 rfl) ?_
  refine lv_iadd hx hb dX5_looks_12 ?_
  obtain ⟨hi, h⟩ := h
  refine mr_iald C w 3 2 rfl rfl hi dX5_looks_13 ?_
  obtain ⟨h1, h2⟩ := h
  refine lv_icmp_lt (tgt := 27) hx hb dX5_looks_14 (by decide) (fun c1 => ?_) (fun c1 => ?_)
  · have h := h1 c1
    exact M_looks_a27 C h (lv_sub hl [0] rfl) w
  · have h := h2 c1
    refine lv_iload_n hx hb dX5_looks_17 rfl (lv_at hl 2 rfl) ?_
    obtain ⟨h1, h2⟩ := h
    refine lv_if_eq (tgt := 27) hx hb dX5_looks_18 (by decide) (fun c1 => ?_) (fun c1 => ?_)
    · have h := h1 c1
      exact M_looks_a27 C h (lv_sub hl [0] rfl) w
    · have h := h2 c1
      refine lv_iload_n hx hb dX5_looks_21 rfl (lv_at hl 1 rfl) ?_
      refine lv_iconst (v := 4) hx hb dX5_looks_22 (by decide) ?_
      refine lv_irem hx hb dX5_looks_23 (by decide) ?_
      obtain ⟨h1, h2⟩ := h
      refine lv_if_ne (tgt := 31) hx hb dX5_looks_24 (by decide) (fun c1 => ?_) (fun c1 => ?_)
      · have h := h1 c1
        refine lv_iconst (v := 0) hx hb dX5_looks_31 (by decide) ?_
        exact M_looks_a32 C h (lv_sub hl [0] rfl) w
      · have h := h2 c1
        exact M_looks_a27 C h (lv_sub hl [0] rfl) w
def M_looks_VC (x1 : Int32) (x2 : Int32) (x3 : Int32) (S : MS) (post : Int32 → MS → Prop) : Prop := M_looks_w0 post x1 x2 x3 S
theorem M_looks_ok {x1 : Int32} {x2 : Int32} {x3 : Int32} {S : MS} {post : Int32 → MS → Prop} (h : M_looks_VC x1 x2 x3 S post) : M_looks x1 x2 x3 S post := by
  intro l D dA o sz
  refine mr_start (fun A => va_Qi post (mB D dA o A) A) rfl (Nat.le_of_ble_eq_true rfl) (by decide) ?_
  intro p e s m args below meth c ls A C w hl
  have hl : lv_has ls 4 [(0, .ref (o 0)), (1, .int x1), (2, .int x2), (3, .int x3)] := hl
  exact M_looks_a0 C h (lv_sub hl [0, 1, 2, 3] rfl) w

/-! sortOf(I)I -/
def M_sortOf_w2 (post : Int32 → MS → Prop) (T2 : Int32 → Int32 → MS → Prop) (x1 : Int32) (x2 : Int32) (S : MS) : Prop :=
  (vp_in (x2 + (1 : Int32)) 22 ∧ ((x1 < (gI S 20 ((x2 + (1 : Int32))).toNatClampNeg) → post x2 S) ∧ (¬ x1 < (gI S 20 ((x2 + (1 : Int32))).toNatClampNeg) → T2 x1 (x2 + (1 : Int32)) S)))
set_option maxHeartbeats 4000000 in
set_option maxRecDepth 100000 in
theorem M_sortOf_a2 {p : Program} {l : Launch} {e : Env} {s : State} {m : MethodId} {args : Array Value} {below : List Frame} {meth : Method} {c : Code} {D : va_G} {dA : Nat → ClassId} {o : Nat → Nat} {A : Nat → Prop} {post : Int32 → MS → Prop} {T2 : Int32 → Int32 → MS → Prop} (C : mC p m c cX5_sortOf 3 s args meth (Option.some Jvm.ClassFile.FieldType.int) A) (hT2 : ∀ (x1 : Int32) (x2 : Int32) (S : MS), T2 x1 x2 S → ∀ (H : Heap) (locs : List Loc) (ls : Array Slot), lv_has ls 3 [(0, .ref (o 0)), (1, .int x1), (2, .int x2)] → mw D dA o A s S H locs → W p l e rM_sortOf s m args below meth c H locs 0 0 (mQi below args s D dA o A post) (F0 m 2 ls [])) {x1 : Int32} {x2 : Int32} {S : MS} (h : M_sortOf_w2 post T2 x1 x2 S) {H : Heap} {locs : List Loc} {ls : Array Slot} (hl : lv_has ls 3 [(0, .ref (o 0)), (1, .int x1), (2, .int x2)]) (w : mw D dA o A s S H locs) : W p l e rM_sortOf s m args below meth c H locs 0 0 (mQi below args s D dA o A post) (F0 m 2 ls []) := by
  unfold M_sortOf_w2 at h
  obtain ⟨⟨hx, hb, hml, hown, hts⟩, hr, hlk, hA⟩ := id C
  refine lv_aload_n hx hb dX5_sortOf_2 rfl (lv_at hl 0 rfl) ?_
  refine mr_get C w 20 (by decide) q597 rfl rfl dX5_sortOf_3 ?_
  refine lv_iload_n hx hb dX5_sortOf_6 rfl (lv_at hl 2 rfl) ?_
  refine lv_iconst (v := 1) hx hb dX5_sortOf_7 (by decide) ?_
  refine lv_iadd hx hb dX5_sortOf_8 ?_
  obtain ⟨hi, h⟩ := h
  refine mr_iald C w 14 13 rfl rfl hi dX5_sortOf_9 ?_
  refine lv_iload_n hx hb dX5_sortOf_10 rfl (lv_at hl 1 rfl) ?_
  obtain ⟨h1, h2⟩ := h
  refine lv_icmp_gt (tgt := 20) hx hb dX5_sortOf_11 (by decide) (fun c1 => ?_) (fun c1 => ?_)
  · have h := h1 c1
    refine lv_iload_n hx hb dX5_sortOf_20 rfl (lv_at hl 2 rfl) ?_
    exact mr_iret C w h dX5_sortOf_21
  · have h := h2 c1
    refine lv_iinc (v := _ + (1 : Int32)) (lv' := [(2, .int _), (0, .ref _), (1, .int _)]) hx hb dX5_sortOf_14 hl (k := 2) rfl rfl (by decide) rfl (fun ls hl => ?_)
    refine lv_goto (tgt := 2) hx hb dX5_sortOf_17 (by decide) ?_
    exact hT2 _ _ _ h _ _ _ (lv_sub hl [1, 2, 0] rfl) w
def M_sortOf_w0 (post : Int32 → MS → Prop) (T2 : Int32 → Int32 → MS → Prop) (x1 : Int32) (S : MS) : Prop :=
  T2 x1 (0 : Int32) S
set_option maxHeartbeats 4000000 in
set_option maxRecDepth 100000 in
theorem M_sortOf_a0 {p : Program} {l : Launch} {e : Env} {s : State} {m : MethodId} {args : Array Value} {below : List Frame} {meth : Method} {c : Code} {D : va_G} {dA : Nat → ClassId} {o : Nat → Nat} {A : Nat → Prop} {post : Int32 → MS → Prop} {T2 : Int32 → Int32 → MS → Prop} (C : mC p m c cX5_sortOf 3 s args meth (Option.some Jvm.ClassFile.FieldType.int) A) (hT2 : ∀ (x1 : Int32) (x2 : Int32) (S : MS), T2 x1 x2 S → ∀ (H : Heap) (locs : List Loc) (ls : Array Slot), lv_has ls 3 [(0, .ref (o 0)), (1, .int x1), (2, .int x2)] → mw D dA o A s S H locs → W p l e rM_sortOf s m args below meth c H locs 0 0 (mQi below args s D dA o A post) (F0 m 2 ls [])) {x1 : Int32} {S : MS} (h : M_sortOf_w0 post T2 x1 S) {H : Heap} {locs : List Loc} {ls : Array Slot} (hl : lv_has ls 3 [(0, .ref (o 0)), (1, .int x1)]) (w : mw D dA o A s S H locs) : W p l e rM_sortOf s m args below meth c H locs 0 0 (mQi below args s D dA o A post) (F0 m 0 ls []) := by
  unfold M_sortOf_w0 at h
  obtain ⟨⟨hx, hb, hml, hown, hts⟩, hr, hlk, hA⟩ := id C
  refine lv_iconst (v := 0) hx hb dX5_sortOf_0 (by decide) ?_
  refine lv_istore_n (lv' := [(2, .int _), (0, .ref _), (1, .int _)]) hx hb dX5_sortOf_1 rfl hl (by decide) rfl (fun ls hl => ?_)
  exact hT2 _ _ _ h _ _ _ (lv_sub hl [1, 2, 0] rfl) w
def M_sortOf_VC (x1 : Int32) (S : MS) (post : Int32 → MS → Prop) : Prop := ∀ (T2 : Int32 → Int32 → MS → Prop), (∀ (x1 : Int32) (x2 : Int32) (S : MS), M_sortOf_w2 post T2 x1 x2 S → T2 x1 x2 S) → M_sortOf_w0 post T2 x1 S
theorem M_sortOf_ok {x1 : Int32} {S : MS} {post : Int32 → MS → Prop} (h : M_sortOf_VC x1 S post) : M_sortOf x1 S post := by
  intro l D dA o sz
  refine mr_start (fun A => va_Qi post (mB D dA o A) A) rfl (Nat.le_of_ble_eq_true rfl) (by decide) ?_
  intro p e s m args below meth c ls A C w hl
  have hl : lv_has ls 3 [(0, .ref (o 0)), (1, .int x1)] := hl
  have h := h (fun (x1 : Int32) (x2 : Int32) S => ∀ (H : Heap) (locs : List Loc) (ls : Array Slot), lv_has ls 3 [(0, .ref (o 0)), (1, .int x1), (2, .int x2)] → mw D dA o A s S H locs → W p l e rM_sortOf s m args below meth c H locs 0 0 (mQi below args s D dA o A post) (F0 m 2 ls [])) (fun _ _ S h H locs ls hl w => M_sortOf_a2 C (fun _ _ _ h => h) h hl w)
  exact M_sortOf_a0 C (fun _ _ _ h => h) h (lv_sub hl [0, 1] rfl) w

/-! spread(II)I -/
def M_spread_w256 (post : Int32 → MS → Prop) (T18 : Int32 → Int32 → Int32 → Int32 → MS → Prop) (T32 : Int32 → Int32 → Int32 → Int32 → Int32 → MS → Prop) (T52 : Int32 → Int32 → Int32 → Int32 → Int32 → Int32 → MS → Prop) (x1 : Int32) (x3 : Int32) (x4 : Int32) (x5 : Int32) (S : MS) : Prop :=
  T18 x1 x3 x4 (x5 + (1 : Int32)) S
set_option maxHeartbeats 4000000 in
set_option maxRecDepth 100000 in
theorem M_spread_a256 {p : Program} {l : Launch} {e : Env} {s : State} {m : MethodId} {args : Array Value} {below : List Frame} {meth : Method} {c : Code} {D : va_G} {dA : Nat → ClassId} {o : Nat → Nat} {A : Nat → Prop} {post : Int32 → MS → Prop} {T18 : Int32 → Int32 → Int32 → Int32 → MS → Prop} {T32 : Int32 → Int32 → Int32 → Int32 → Int32 → MS → Prop} {T52 : Int32 → Int32 → Int32 → Int32 → Int32 → Int32 → MS → Prop} (C : mC p m c cX5_spread 11 s args meth (Option.some Jvm.ClassFile.FieldType.int) A) (hT18 : ∀ (x1 : Int32) (x3 : Int32) (x4 : Int32) (x5 : Int32) (S : MS), T18 x1 x3 x4 x5 S → ∀ (H : Heap) (locs : List Loc) (ls : Array Slot), lv_has ls 11 [(0, .ref (o 0)), (1, .int x1), (3, .int x3), (4, .int x4), (5, .int x5)] → mw D dA o A s S H locs → W p l e rM_spread s m args below meth c H locs 0 0 (mQi below args s D dA o A post) (F0 m 18 ls [])) (hT32 : ∀ (x1 : Int32) (x3 : Int32) (x4 : Int32) (x5 : Int32) (x6 : Int32) (S : MS), T32 x1 x3 x4 x5 x6 S → ∀ (H : Heap) (locs : List Loc) (ls : Array Slot), lv_has ls 11 [(0, .ref (o 0)), (1, .int x1), (3, .int x3), (4, .int x4), (5, .int x5), (6, .int x6)] → mw D dA o A s S H locs → W p l e rM_spread s m args below meth c H locs 0 0 (mQi below args s D dA o A post) (F0 m 32 ls [])) (hT52 : ∀ (x1 : Int32) (x3 : Int32) (x4 : Int32) (x5 : Int32) (x6 : Int32) (x7 : Int32) (S : MS), T52 x1 x3 x4 x5 x6 x7 S → ∀ (H : Heap) (locs : List Loc) (ls : Array Slot), lv_has ls 11 [(0, .ref (o 0)), (1, .int x1), (3, .int x3), (4, .int x4), (5, .int x5), (6, .int x6), (7, .int x7)] → mw D dA o A s S H locs → W p l e rM_spread s m args below meth c H locs 0 0 (mQi below args s D dA o A post) (F0 m 52 ls [])) {x1 : Int32} {x3 : Int32} {x4 : Int32} {x5 : Int32} {S : MS} (h : M_spread_w256 post T18 T32 T52 x1 x3 x4 x5 S) {H : Heap} {locs : List Loc} {ls : Array Slot} (hl : lv_has ls 11 [(0, .ref (o 0)), (1, .int x1), (3, .int x3), (4, .int x4), (5, .int x5)]) (w : mw D dA o A s S H locs) : W p l e rM_spread s m args below meth c H locs 0 0 (mQi below args s D dA o A post) (F0 m 256 ls []) := by
  unfold M_spread_w256 at h
  obtain ⟨⟨hx, hb, hml, hown, hts⟩, hr, hlk, hA⟩ := id C
  refine lv_iinc (v := _ + (1 : Int32)) (lv' := [(5, .int _), (0, .ref _), (1, .int _), (3, .int _), (4, .int _)]) hx hb dX5_spread_256 hl (k := 4) rfl rfl (by decide) rfl (fun ls hl => ?_)
  refine lv_goto (tgt := 18) hx hb dX5_spread_259 (by decide) ?_
  exact hT18 _ _ _ _ _ h _ _ _ (lv_sub hl [1, 2, 3, 4, 0] rfl) w
def M_spread_w250 (post : Int32 → MS → Prop) (T18 : Int32 → Int32 → Int32 → Int32 → MS → Prop) (T32 : Int32 → Int32 → Int32 → Int32 → Int32 → MS → Prop) (T52 : Int32 → Int32 → Int32 → Int32 → Int32 → Int32 → MS → Prop) (x1 : Int32) (x3 : Int32) (x4 : Int32) (x5 : Int32) (x6 : Int32) (S : MS) : Prop :=
  T32 x1 x3 x4 x5 (x6 + (1 : Int32)) S
set_option maxHeartbeats 4000000 in
set_option maxRecDepth 100000 in
theorem M_spread_a250 {p : Program} {l : Launch} {e : Env} {s : State} {m : MethodId} {args : Array Value} {below : List Frame} {meth : Method} {c : Code} {D : va_G} {dA : Nat → ClassId} {o : Nat → Nat} {A : Nat → Prop} {post : Int32 → MS → Prop} {T18 : Int32 → Int32 → Int32 → Int32 → MS → Prop} {T32 : Int32 → Int32 → Int32 → Int32 → Int32 → MS → Prop} {T52 : Int32 → Int32 → Int32 → Int32 → Int32 → Int32 → MS → Prop} (C : mC p m c cX5_spread 11 s args meth (Option.some Jvm.ClassFile.FieldType.int) A) (hT18 : ∀ (x1 : Int32) (x3 : Int32) (x4 : Int32) (x5 : Int32) (S : MS), T18 x1 x3 x4 x5 S → ∀ (H : Heap) (locs : List Loc) (ls : Array Slot), lv_has ls 11 [(0, .ref (o 0)), (1, .int x1), (3, .int x3), (4, .int x4), (5, .int x5)] → mw D dA o A s S H locs → W p l e rM_spread s m args below meth c H locs 0 0 (mQi below args s D dA o A post) (F0 m 18 ls [])) (hT32 : ∀ (x1 : Int32) (x3 : Int32) (x4 : Int32) (x5 : Int32) (x6 : Int32) (S : MS), T32 x1 x3 x4 x5 x6 S → ∀ (H : Heap) (locs : List Loc) (ls : Array Slot), lv_has ls 11 [(0, .ref (o 0)), (1, .int x1), (3, .int x3), (4, .int x4), (5, .int x5), (6, .int x6)] → mw D dA o A s S H locs → W p l e rM_spread s m args below meth c H locs 0 0 (mQi below args s D dA o A post) (F0 m 32 ls [])) (hT52 : ∀ (x1 : Int32) (x3 : Int32) (x4 : Int32) (x5 : Int32) (x6 : Int32) (x7 : Int32) (S : MS), T52 x1 x3 x4 x5 x6 x7 S → ∀ (H : Heap) (locs : List Loc) (ls : Array Slot), lv_has ls 11 [(0, .ref (o 0)), (1, .int x1), (3, .int x3), (4, .int x4), (5, .int x5), (6, .int x6), (7, .int x7)] → mw D dA o A s S H locs → W p l e rM_spread s m args below meth c H locs 0 0 (mQi below args s D dA o A post) (F0 m 52 ls [])) {x1 : Int32} {x3 : Int32} {x4 : Int32} {x5 : Int32} {x6 : Int32} {S : MS} (h : M_spread_w250 post T18 T32 T52 x1 x3 x4 x5 x6 S) {H : Heap} {locs : List Loc} {ls : Array Slot} (hl : lv_has ls 11 [(0, .ref (o 0)), (1, .int x1), (3, .int x3), (4, .int x4), (5, .int x5), (6, .int x6)]) (w : mw D dA o A s S H locs) : W p l e rM_spread s m args below meth c H locs 0 0 (mQi below args s D dA o A post) (F0 m 250 ls []) := by
  unfold M_spread_w250 at h
  obtain ⟨⟨hx, hb, hml, hown, hts⟩, hr, hlk, hA⟩ := id C
  refine lv_iinc (v := _ + (1 : Int32)) (lv' := [(6, .int _), (0, .ref _), (1, .int _), (3, .int _), (4, .int _), (5, .int _)]) hx hb dX5_spread_250 hl (k := 5) rfl rfl (by decide) rfl (fun ls hl => ?_)
  refine lv_goto (tgt := 32) hx hb dX5_spread_253 (by decide) ?_
  exact hT32 _ _ _ _ _ _ h _ _ _ (lv_sub hl [1, 2, 3, 4, 5, 0] rfl) w
def M_spread_w244 (post : Int32 → MS → Prop) (T18 : Int32 → Int32 → Int32 → Int32 → MS → Prop) (T32 : Int32 → Int32 → Int32 → Int32 → Int32 → MS → Prop) (T52 : Int32 → Int32 → Int32 → Int32 → Int32 → Int32 → MS → Prop) (x1 : Int32) (x3 : Int32) (x4 : Int32) (x5 : Int32) (x6 : Int32) (x7 : Int32) (S : MS) : Prop :=
  T52 x1 x3 x4 x5 x6 (x7 + (1 : Int32)) S
set_option maxHeartbeats 4000000 in
set_option maxRecDepth 100000 in
theorem M_spread_a244 {p : Program} {l : Launch} {e : Env} {s : State} {m : MethodId} {args : Array Value} {below : List Frame} {meth : Method} {c : Code} {D : va_G} {dA : Nat → ClassId} {o : Nat → Nat} {A : Nat → Prop} {post : Int32 → MS → Prop} {T18 : Int32 → Int32 → Int32 → Int32 → MS → Prop} {T32 : Int32 → Int32 → Int32 → Int32 → Int32 → MS → Prop} {T52 : Int32 → Int32 → Int32 → Int32 → Int32 → Int32 → MS → Prop} (C : mC p m c cX5_spread 11 s args meth (Option.some Jvm.ClassFile.FieldType.int) A) (hT18 : ∀ (x1 : Int32) (x3 : Int32) (x4 : Int32) (x5 : Int32) (S : MS), T18 x1 x3 x4 x5 S → ∀ (H : Heap) (locs : List Loc) (ls : Array Slot), lv_has ls 11 [(0, .ref (o 0)), (1, .int x1), (3, .int x3), (4, .int x4), (5, .int x5)] → mw D dA o A s S H locs → W p l e rM_spread s m args below meth c H locs 0 0 (mQi below args s D dA o A post) (F0 m 18 ls [])) (hT32 : ∀ (x1 : Int32) (x3 : Int32) (x4 : Int32) (x5 : Int32) (x6 : Int32) (S : MS), T32 x1 x3 x4 x5 x6 S → ∀ (H : Heap) (locs : List Loc) (ls : Array Slot), lv_has ls 11 [(0, .ref (o 0)), (1, .int x1), (3, .int x3), (4, .int x4), (5, .int x5), (6, .int x6)] → mw D dA o A s S H locs → W p l e rM_spread s m args below meth c H locs 0 0 (mQi below args s D dA o A post) (F0 m 32 ls [])) (hT52 : ∀ (x1 : Int32) (x3 : Int32) (x4 : Int32) (x5 : Int32) (x6 : Int32) (x7 : Int32) (S : MS), T52 x1 x3 x4 x5 x6 x7 S → ∀ (H : Heap) (locs : List Loc) (ls : Array Slot), lv_has ls 11 [(0, .ref (o 0)), (1, .int x1), (3, .int x3), (4, .int x4), (5, .int x5), (6, .int x6), (7, .int x7)] → mw D dA o A s S H locs → W p l e rM_spread s m args below meth c H locs 0 0 (mQi below args s D dA o A post) (F0 m 52 ls [])) {x1 : Int32} {x3 : Int32} {x4 : Int32} {x5 : Int32} {x6 : Int32} {x7 : Int32} {S : MS} (h : M_spread_w244 post T18 T32 T52 x1 x3 x4 x5 x6 x7 S) {H : Heap} {locs : List Loc} {ls : Array Slot} (hl : lv_has ls 11 [(0, .ref (o 0)), (1, .int x1), (3, .int x3), (4, .int x4), (5, .int x5), (6, .int x6), (7, .int x7)]) (w : mw D dA o A s S H locs) : W p l e rM_spread s m args below meth c H locs 0 0 (mQi below args s D dA o A post) (F0 m 244 ls []) := by
  unfold M_spread_w244 at h
  obtain ⟨⟨hx, hb, hml, hown, hts⟩, hr, hlk, hA⟩ := id C
  refine lv_iinc (v := _ + (1 : Int32)) (lv' := [(7, .int _), (0, .ref _), (1, .int _), (3, .int _), (4, .int _), (5, .int _), (6, .int _)]) hx hb dX5_spread_244 hl (k := 6) rfl rfl (by decide) rfl (fun ls hl => ?_)
  refine lv_goto (tgt := 52) hx hb dX5_spread_247 (by decide) ?_
  exact hT52 _ _ _ _ _ _ _ h _ _ _ (lv_sub hl [1, 2, 3, 4, 5, 6, 0] rfl) w
def M_spread_w241 (post : Int32 → MS → Prop) (T18 : Int32 → Int32 → Int32 → Int32 → MS → Prop) (T32 : Int32 → Int32 → Int32 → Int32 → Int32 → MS → Prop) (T52 : Int32 → Int32 → Int32 → Int32 → Int32 → Int32 → MS → Prop) (v0 : Int32) (x1 : Int32) (x3 : Int32) (x4 : Int32) (x5 : Int32) (x6 : Int32) (x7 : Int32) (S : MS) : Prop :=
  (zok v0 ∧ (fun (S1 : MS) => M_spread_w244 post T18 T32 T52 x1 x3 x4 x5 x6 x7 S1) (sF S 24 v0))
set_option maxHeartbeats 4000000 in
set_option maxRecDepth 100000 in
theorem M_spread_a241 {p : Program} {l : Launch} {e : Env} {s : State} {m : MethodId} {args : Array Value} {below : List Frame} {meth : Method} {c : Code} {D : va_G} {dA : Nat → ClassId} {o : Nat → Nat} {A : Nat → Prop} {post : Int32 → MS → Prop} {T18 : Int32 → Int32 → Int32 → Int32 → MS → Prop} {T32 : Int32 → Int32 → Int32 → Int32 → Int32 → MS → Prop} {T52 : Int32 → Int32 → Int32 → Int32 → Int32 → Int32 → MS → Prop} (C : mC p m c cX5_spread 11 s args meth (Option.some Jvm.ClassFile.FieldType.int) A) (hT18 : ∀ (x1 : Int32) (x3 : Int32) (x4 : Int32) (x5 : Int32) (S : MS), T18 x1 x3 x4 x5 S → ∀ (H : Heap) (locs : List Loc) (ls : Array Slot), lv_has ls 11 [(0, .ref (o 0)), (1, .int x1), (3, .int x3), (4, .int x4), (5, .int x5)] → mw D dA o A s S H locs → W p l e rM_spread s m args below meth c H locs 0 0 (mQi below args s D dA o A post) (F0 m 18 ls [])) (hT32 : ∀ (x1 : Int32) (x3 : Int32) (x4 : Int32) (x5 : Int32) (x6 : Int32) (S : MS), T32 x1 x3 x4 x5 x6 S → ∀ (H : Heap) (locs : List Loc) (ls : Array Slot), lv_has ls 11 [(0, .ref (o 0)), (1, .int x1), (3, .int x3), (4, .int x4), (5, .int x5), (6, .int x6)] → mw D dA o A s S H locs → W p l e rM_spread s m args below meth c H locs 0 0 (mQi below args s D dA o A post) (F0 m 32 ls [])) (hT52 : ∀ (x1 : Int32) (x3 : Int32) (x4 : Int32) (x5 : Int32) (x6 : Int32) (x7 : Int32) (S : MS), T52 x1 x3 x4 x5 x6 x7 S → ∀ (H : Heap) (locs : List Loc) (ls : Array Slot), lv_has ls 11 [(0, .ref (o 0)), (1, .int x1), (3, .int x3), (4, .int x4), (5, .int x5), (6, .int x6), (7, .int x7)] → mw D dA o A s S H locs → W p l e rM_spread s m args below meth c H locs 0 0 (mQi below args s D dA o A post) (F0 m 52 ls [])) {v0 : Int32} {x1 : Int32} {x3 : Int32} {x4 : Int32} {x5 : Int32} {x6 : Int32} {x7 : Int32} {S : MS} (h : M_spread_w241 post T18 T32 T52 v0 x1 x3 x4 x5 x6 x7 S) {H : Heap} {locs : List Loc} {ls : Array Slot} (hl : lv_has ls 11 [(0, .ref (o 0)), (1, .int x1), (3, .int x3), (4, .int x4), (5, .int x5), (6, .int x6), (7, .int x7)]) (w : mw D dA o A s S H locs) : W p l e rM_spread s m args below meth c H locs 0 0 (mQi below args s D dA o A post) (F0 m 241 ls [.int v0, .ref (o 0)]) := by
  unfold M_spread_w241 at h
  obtain ⟨⟨hx, hb, hml, hown, hts⟩, hr, hlk, hA⟩ := id C
  obtain ⟨hz, h⟩ := h
  refine mr_put (ty := .boolean) C w 24 (by decide) q601 rfl rfl (by decide +kernel) (zok_n hz) (zok_f hz) MWf_24 dX5_spread_241 (fun H locs w => ?_)
  exact M_spread_a244 C hT18 hT32 hT52 h (lv_sub hl [0, 1, 2, 3, 4, 5, 6] rfl) w
def M_spread_w236 (post : Int32 → MS → Prop) (T18 : Int32 → Int32 → Int32 → Int32 → MS → Prop) (T32 : Int32 → Int32 → Int32 → Int32 → Int32 → MS → Prop) (T52 : Int32 → Int32 → Int32 → Int32 → Int32 → Int32 → MS → Prop) (x1 : Int32) (x3 : Int32) (x4 : Int32) (x5 : Int32) (x6 : Int32) (x7 : Int32) (S : MS) : Prop :=
  M_spread_w241 post T18 T32 T52 (1 : Int32) x1 x3 x4 x5 x6 x7 S
set_option maxHeartbeats 4000000 in
set_option maxRecDepth 100000 in
theorem M_spread_a236 {p : Program} {l : Launch} {e : Env} {s : State} {m : MethodId} {args : Array Value} {below : List Frame} {meth : Method} {c : Code} {D : va_G} {dA : Nat → ClassId} {o : Nat → Nat} {A : Nat → Prop} {post : Int32 → MS → Prop} {T18 : Int32 → Int32 → Int32 → Int32 → MS → Prop} {T32 : Int32 → Int32 → Int32 → Int32 → Int32 → MS → Prop} {T52 : Int32 → Int32 → Int32 → Int32 → Int32 → Int32 → MS → Prop} (C : mC p m c cX5_spread 11 s args meth (Option.some Jvm.ClassFile.FieldType.int) A) (hT18 : ∀ (x1 : Int32) (x3 : Int32) (x4 : Int32) (x5 : Int32) (S : MS), T18 x1 x3 x4 x5 S → ∀ (H : Heap) (locs : List Loc) (ls : Array Slot), lv_has ls 11 [(0, .ref (o 0)), (1, .int x1), (3, .int x3), (4, .int x4), (5, .int x5)] → mw D dA o A s S H locs → W p l e rM_spread s m args below meth c H locs 0 0 (mQi below args s D dA o A post) (F0 m 18 ls [])) (hT32 : ∀ (x1 : Int32) (x3 : Int32) (x4 : Int32) (x5 : Int32) (x6 : Int32) (S : MS), T32 x1 x3 x4 x5 x6 S → ∀ (H : Heap) (locs : List Loc) (ls : Array Slot), lv_has ls 11 [(0, .ref (o 0)), (1, .int x1), (3, .int x3), (4, .int x4), (5, .int x5), (6, .int x6)] → mw D dA o A s S H locs → W p l e rM_spread s m args below meth c H locs 0 0 (mQi below args s D dA o A post) (F0 m 32 ls [])) (hT52 : ∀ (x1 : Int32) (x3 : Int32) (x4 : Int32) (x5 : Int32) (x6 : Int32) (x7 : Int32) (S : MS), T52 x1 x3 x4 x5 x6 x7 S → ∀ (H : Heap) (locs : List Loc) (ls : Array Slot), lv_has ls 11 [(0, .ref (o 0)), (1, .int x1), (3, .int x3), (4, .int x4), (5, .int x5), (6, .int x6), (7, .int x7)] → mw D dA o A s S H locs → W p l e rM_spread s m args below meth c H locs 0 0 (mQi below args s D dA o A post) (F0 m 52 ls [])) {x1 : Int32} {x3 : Int32} {x4 : Int32} {x5 : Int32} {x6 : Int32} {x7 : Int32} {S : MS} (h : M_spread_w236 post T18 T32 T52 x1 x3 x4 x5 x6 x7 S) {H : Heap} {locs : List Loc} {ls : Array Slot} (hl : lv_has ls 11 [(0, .ref (o 0)), (1, .int x1), (3, .int x3), (4, .int x4), (5, .int x5), (6, .int x6), (7, .int x7)]) (w : mw D dA o A s S H locs) : W p l e rM_spread s m args below meth c H locs 0 0 (mQi below args s D dA o A post) (F0 m 236 ls [.ref (o 0)]) := by
  unfold M_spread_w236 at h
  obtain ⟨⟨hx, hb, hml, hown, hts⟩, hr, hlk, hA⟩ := id C
  refine lv_iconst (v := 1) hx hb dX5_spread_236 (by decide) ?_
  refine lv_goto (tgt := 241) hx hb dX5_spread_237 (by decide) ?_
  exact M_spread_a241 C hT18 hT32 hT52 h (lv_sub hl [0, 1, 2, 3, 4, 5, 6] rfl) w
def M_spread_w216 (post : Int32 → MS → Prop) (T18 : Int32 → Int32 → Int32 → Int32 → MS → Prop) (T32 : Int32 → Int32 → Int32 → Int32 → Int32 → MS → Prop) (T52 : Int32 → Int32 → Int32 → Int32 → Int32 → Int32 → MS → Prop) (x1 : Int32) (x3 : Int32) (x4 : Int32) (x5 : Int32) (x6 : Int32) (x7 : Int32) (x9 : Int32) (x10 : Int32) (S : MS) : Prop :=
  ((¬ (gF S 24) = 0 → M_spread_w236 post T18 T32 T52 x1 x3 x4 x5 x6 x7 S) ∧ ((gF S 24) = 0 → (vp_in x9 400 ∧ (((gI S 22 (x9).toNatClampNeg) = x10 → M_spread_w241 post T18 T32 T52 (0 : Int32) x1 x3 x4 x5 x6 x7 S) ∧ (¬ (gI S 22 (x9).toNatClampNeg) = x10 → M_spread_w236 post T18 T32 T52 x1 x3 x4 x5 x6 x7 S)))))
set_option maxHeartbeats 4000000 in
set_option maxRecDepth 100000 in
theorem M_spread_a216 {p : Program} {l : Launch} {e : Env} {s : State} {m : MethodId} {args : Array Value} {below : List Frame} {meth : Method} {c : Code} {D : va_G} {dA : Nat → ClassId} {o : Nat → Nat} {A : Nat → Prop} {post : Int32 → MS → Prop} {T18 : Int32 → Int32 → Int32 → Int32 → MS → Prop} {T32 : Int32 → Int32 → Int32 → Int32 → Int32 → MS → Prop} {T52 : Int32 → Int32 → Int32 → Int32 → Int32 → Int32 → MS → Prop} (C : mC p m c cX5_spread 11 s args meth (Option.some Jvm.ClassFile.FieldType.int) A) (hT18 : ∀ (x1 : Int32) (x3 : Int32) (x4 : Int32) (x5 : Int32) (S : MS), T18 x1 x3 x4 x5 S → ∀ (H : Heap) (locs : List Loc) (ls : Array Slot), lv_has ls 11 [(0, .ref (o 0)), (1, .int x1), (3, .int x3), (4, .int x4), (5, .int x5)] → mw D dA o A s S H locs → W p l e rM_spread s m args below meth c H locs 0 0 (mQi below args s D dA o A post) (F0 m 18 ls [])) (hT32 : ∀ (x1 : Int32) (x3 : Int32) (x4 : Int32) (x5 : Int32) (x6 : Int32) (S : MS), T32 x1 x3 x4 x5 x6 S → ∀ (H : Heap) (locs : List Loc) (ls : Array Slot), lv_has ls 11 [(0, .ref (o 0)), (1, .int x1), (3, .int x3), (4, .int x4), (5, .int x5), (6, .int x6)] → mw D dA o A s S H locs → W p l e rM_spread s m args below meth c H locs 0 0 (mQi below args s D dA o A post) (F0 m 32 ls [])) (hT52 : ∀ (x1 : Int32) (x3 : Int32) (x4 : Int32) (x5 : Int32) (x6 : Int32) (x7 : Int32) (S : MS), T52 x1 x3 x4 x5 x6 x7 S → ∀ (H : Heap) (locs : List Loc) (ls : Array Slot), lv_has ls 11 [(0, .ref (o 0)), (1, .int x1), (3, .int x3), (4, .int x4), (5, .int x5), (6, .int x6), (7, .int x7)] → mw D dA o A s S H locs → W p l e rM_spread s m args below meth c H locs 0 0 (mQi below args s D dA o A post) (F0 m 52 ls [])) {x1 : Int32} {x3 : Int32} {x4 : Int32} {x5 : Int32} {x6 : Int32} {x7 : Int32} {x9 : Int32} {x10 : Int32} {S : MS} (h : M_spread_w216 post T18 T32 T52 x1 x3 x4 x5 x6 x7 x9 x10 S) {H : Heap} {locs : List Loc} {ls : Array Slot} (hl : lv_has ls 11 [(0, .ref (o 0)), (1, .int x1), (3, .int x3), (4, .int x4), (5, .int x5), (6, .int x6), (7, .int x7), (9, .int x9), (10, .int x10)]) (w : mw D dA o A s S H locs) : W p l e rM_spread s m args below meth c H locs 0 0 (mQi below args s D dA o A post) (F0 m 216 ls []) := by
  unfold M_spread_w216 at h
  obtain ⟨⟨hx, hb, hml, hown, hts⟩, hr, hlk, hA⟩ := id C
  refine lv_aload_n hx hb dX5_spread_216 rfl (lv_at hl 0 rfl) ?_
  refine lv_aload_n hx hb dX5_spread_217 rfl (lv_at hl 0 rfl) ?_
  refine mr_get C w 24 (by decide) q601 rfl rfl dX5_spread_218 ?_
  obtain ⟨h1, h2⟩ := h
  refine lv_if_ne (tgt := 236) hx hb dX5_spread_221 (by decide) (fun c1 => ?_) (fun c1 => ?_)
  · have h := h1 c1
    exact M_spread_a236 C hT18 hT32 hT52 h (lv_sub hl [0, 1, 2, 3, 4, 5, 6] rfl) w
  · have h := h2 c1
    refine lv_aload_n hx hb dX5_spread_224 rfl (lv_at hl 0 rfl) ?_
    refine mr_get C w 22 (by decide) q599 rfl rfl dX5_spread_225 ?_
    refine lv_iload hx hb dX5_spread_228 (lv_at hl 7 rfl) ?_
    obtain ⟨hi, h⟩ := h
    refine mr_iald C w 16 15 rfl rfl hi dX5_spread_230 ?_
    refine lv_iload hx hb dX5_spread_231 (lv_at hl 8 rfl) ?_
    obtain ⟨h1, h2⟩ := h
    refine lv_icmp_eq (tgt := 240) hx hb dX5_spread_233 (by decide) (fun c1 => ?_) (fun c1 => ?_)
    · have h := h1 c1
      refine lv_iconst (v := 0) hx hb dX5_spread_240 (by decide) ?_
      exact M_spread_a241 C hT18 hT32 hT52 h (lv_sub hl [0, 1, 2, 3, 4, 5, 6] rfl) w
    · have h := h2 c1
      exact M_spread_a236 C hT18 hT32 hT52 h (lv_sub hl [0, 1, 2, 3, 4, 5, 6] rfl) w
def M_spread_w170 (post : Int32 → MS → Prop) (T18 : Int32 → Int32 → Int32 → Int32 → MS → Prop) (T32 : Int32 → Int32 → Int32 → Int32 → Int32 → MS → Prop) (T52 : Int32 → Int32 → Int32 → Int32 → Int32 → Int32 → MS → Prop) (v0 : Int32) (x1 : Int32) (x3 : Int32) (x4 : Int32) (x5 : Int32) (x6 : Int32) (x7 : Int32) (x9 : Int32) (S : MS) : Prop :=
  (vp_in x9 400 ∧ ((¬ (gI S 21 (x9).toNatClampNeg) = (-1 : Int32) → M_spread_w216 post T18 T32 T52 x1 x3 x4 x5 x6 x7 x9 v0 S) ∧ ((gI S 21 (x9).toNatClampNeg) = (-1 : Int32) → (vp_in x1 400 ∧ (vp_in x9 400 ∧ (fun (S1 : MS) => (vp_in x9 400 ∧ (fun (S2 : MS) => (vp_in x3 400 ∧ (fun (S3 : MS) => M_spread_w216 post T18 T32 T52 x1 (x3 + (1 : Int32)) x4 x5 x6 x7 x9 v0 S3) (sI S2 23 (x3).toNatClampNeg x9))) (sI S1 22 (x9).toNatClampNeg v0))) (sI S 21 (x9).toNatClampNeg (gI S 21 (x1).toNatClampNeg)))))))
set_option maxHeartbeats 4000000 in
set_option maxRecDepth 100000 in
theorem M_spread_a170 {p : Program} {l : Launch} {e : Env} {s : State} {m : MethodId} {args : Array Value} {below : List Frame} {meth : Method} {c : Code} {D : va_G} {dA : Nat → ClassId} {o : Nat → Nat} {A : Nat → Prop} {post : Int32 → MS → Prop} {T18 : Int32 → Int32 → Int32 → Int32 → MS → Prop} {T32 : Int32 → Int32 → Int32 → Int32 → Int32 → MS → Prop} {T52 : Int32 → Int32 → Int32 → Int32 → Int32 → Int32 → MS → Prop} (C : mC p m c cX5_spread 11 s args meth (Option.some Jvm.ClassFile.FieldType.int) A) (hT18 : ∀ (x1 : Int32) (x3 : Int32) (x4 : Int32) (x5 : Int32) (S : MS), T18 x1 x3 x4 x5 S → ∀ (H : Heap) (locs : List Loc) (ls : Array Slot), lv_has ls 11 [(0, .ref (o 0)), (1, .int x1), (3, .int x3), (4, .int x4), (5, .int x5)] → mw D dA o A s S H locs → W p l e rM_spread s m args below meth c H locs 0 0 (mQi below args s D dA o A post) (F0 m 18 ls [])) (hT32 : ∀ (x1 : Int32) (x3 : Int32) (x4 : Int32) (x5 : Int32) (x6 : Int32) (S : MS), T32 x1 x3 x4 x5 x6 S → ∀ (H : Heap) (locs : List Loc) (ls : Array Slot), lv_has ls 11 [(0, .ref (o 0)), (1, .int x1), (3, .int x3), (4, .int x4), (5, .int x5), (6, .int x6)] → mw D dA o A s S H locs → W p l e rM_spread s m args below meth c H locs 0 0 (mQi below args s D dA o A post) (F0 m 32 ls [])) (hT52 : ∀ (x1 : Int32) (x3 : Int32) (x4 : Int32) (x5 : Int32) (x6 : Int32) (x7 : Int32) (S : MS), T52 x1 x3 x4 x5 x6 x7 S → ∀ (H : Heap) (locs : List Loc) (ls : Array Slot), lv_has ls 11 [(0, .ref (o 0)), (1, .int x1), (3, .int x3), (4, .int x4), (5, .int x5), (6, .int x6), (7, .int x7)] → mw D dA o A s S H locs → W p l e rM_spread s m args below meth c H locs 0 0 (mQi below args s D dA o A post) (F0 m 52 ls [])) {v0 : Int32} {x1 : Int32} {x3 : Int32} {x4 : Int32} {x5 : Int32} {x6 : Int32} {x7 : Int32} {x9 : Int32} {S : MS} (h : M_spread_w170 post T18 T32 T52 v0 x1 x3 x4 x5 x6 x7 x9 S) {H : Heap} {locs : List Loc} {ls : Array Slot} (hl : lv_has ls 11 [(0, .ref (o 0)), (1, .int x1), (3, .int x3), (4, .int x4), (5, .int x5), (6, .int x6), (7, .int x7), (9, .int x9)]) (w : mw D dA o A s S H locs) : W p l e rM_spread s m args below meth c H locs 0 0 (mQi below args s D dA o A post) (F0 m 170 ls [.int v0]) := by
  unfold M_spread_w170 at h
  obtain ⟨⟨hx, hb, hml, hown, hts⟩, hr, hlk, hA⟩ := id C
  refine lv_istore (lv' := [(10, .int _), (0, .ref _), (1, .int _), (3, .int _), (4, .int _), (5, .int _), (6, .int _), (7, .int _), (9, .int _)]) hx hb dX5_spread_170 hl (by decide) rfl (fun ls hl => ?_)
  refine lv_aload_n hx hb dX5_spread_172 rfl (lv_at hl 1 rfl) ?_
  refine mr_get C w 21 (by decide) q598 rfl rfl dX5_spread_173 ?_
  refine lv_iload hx hb dX5_spread_176 (lv_at hl 8 rfl) ?_
  obtain ⟨hi, h⟩ := h
  refine mr_iald C w 15 14 rfl rfl hi dX5_spread_178 ?_
  refine lv_iconst (v := -1) hx hb dX5_spread_179 (by decide) ?_
  obtain ⟨h1, h2⟩ := h
  refine lv_icmp_ne (tgt := 216) hx hb dX5_spread_180 (by decide) (fun c1 => ?_) (fun c1 => ?_)
  · have h := h1 c1
    exact M_spread_a216 C hT18 hT32 hT52 h (lv_sub hl [1, 2, 3, 4, 5, 6, 7, 8, 0] rfl) w
  · have h := h2 c1
    refine lv_aload_n hx hb dX5_spread_183 rfl (lv_at hl 1 rfl) ?_
    refine mr_get C w 21 (by decide) q598 rfl rfl dX5_spread_184 ?_
    refine lv_iload hx hb dX5_spread_187 (lv_at hl 8 rfl) ?_
    refine lv_aload_n hx hb dX5_spread_189 rfl (lv_at hl 1 rfl) ?_
    refine mr_get C w 21 (by decide) q598 rfl rfl dX5_spread_190 ?_
    refine lv_iload_n hx hb dX5_spread_193 rfl (lv_at hl 2 rfl) ?_
    obtain ⟨hi, h⟩ := h
    refine mr_iald C w 15 14 rfl rfl hi dX5_spread_194 ?_
    obtain ⟨hi, h⟩ := h
    refine mr_iast C w 15 14 rfl rfl hi MWs_21 dX5_spread_195 (fun H locs w => ?_)
    refine lv_aload_n hx hb dX5_spread_196 rfl (lv_at hl 1 rfl) ?_
    refine mr_get C w 22 (by decide) q599 rfl rfl dX5_spread_197 ?_
    refine lv_iload hx hb dX5_spread_200 (lv_at hl 8 rfl) ?_
    refine lv_iload hx hb dX5_spread_202 (lv_at hl 0 rfl) ?_
    obtain ⟨hi, h⟩ := h
    refine mr_iast C w 16 15 rfl rfl hi MWs_22 dX5_spread_204 (fun H locs w => ?_)
    refine lv_aload_n hx hb dX5_spread_205 rfl (lv_at hl 1 rfl) ?_
    refine mr_get C w 23 (by decide) q600 rfl rfl dX5_spread_206 ?_
    refine lv_iload_n hx hb dX5_spread_209 rfl (lv_at hl 3 rfl) ?_
    refine lv_iload hx hb dX5_spread_210 (lv_at hl 8 rfl) ?_
    obtain ⟨hi, h⟩ := h
    refine mr_iast C w 17 16 rfl rfl hi MWs_23 dX5_spread_212 (fun H locs w => ?_)
    refine lv_iinc (v := _ + (1 : Int32)) (lv' := [(3, .int _), (10, .int _), (0, .ref _), (1, .int _), (4, .int _), (5, .int _), (6, .int _), (7, .int _), (9, .int _)]) hx hb dX5_spread_213 hl (k := 3) rfl rfl (by decide) rfl (fun ls hl => ?_)
    exact M_spread_a216 C hT18 hT32 hT52 h (lv_sub hl [2, 3, 0, 4, 5, 6, 7, 8, 1] rfl) w
def M_spread_w52 (post : Int32 → MS → Prop) (T18 : Int32 → Int32 → Int32 → Int32 → MS → Prop) (T32 : Int32 → Int32 → Int32 → Int32 → Int32 → MS → Prop) (T52 : Int32 → Int32 → Int32 → Int32 → Int32 → Int32 → MS → Prop) (x1 : Int32) (x3 : Int32) (x4 : Int32) (x5 : Int32) (x6 : Int32) (x7 : Int32) (S : MS) : Prop :=
  ((x6 = (x5 - x5 / (4 : Int32) * (4 : Int32)) → M_spread_w250 post T18 T32 T52 x1 x3 x4 x5 x6 S) ∧ (¬ x6 = (x5 - x5 / (4 : Int32) * (4 : Int32)) → M_arcs x4 (x5 - x5 / (4 : Int32) * (4 : Int32)) x6 S (fun (r1 : Int32) (S1 : MS) => ((r1 ≤ x7 → M_spread_w250 post T18 T32 T52 x1 x3 x4 x5 x6 S1) ∧ (¬ r1 ≤ x7 → M_cutAt x5 x6 x7 S1 (fun (r2 : Int32) (S2 : MS) => ((r2 = x1 → (vp_in (((4 : Int32) * x5) + x6) 48 ∧ (vp_in x5 12 ∧ M_cutAt (gI S2 1 (x5).toNatClampNeg) (gI S2 2 ((((4 : Int32) * x5) + x6)).toNatClampNeg) x7 S2 (fun (r3 : Int32) (S3 : MS) => M_looks x5 x6 x7 S3 (fun (r4 : Int32) (S4 : MS) => (vp_in x5 12 ∧ M_looks (gI S4 1 (x5).toNatClampNeg) (gI S2 2 ((((4 : Int32) * x5) + x6)).toNatClampNeg) x7 S4 (fun (r5 : Int32) (S5 : MS) => ((¬ r4 = r5 → (vp_in x1 400 ∧ M_spread_w170 post T18 T32 T52 (-(gI S5 22 (x1).toNatClampNeg)) x1 x3 x4 x5 x6 x7 r3 S5)) ∧ (r4 = r5 → (vp_in x1 400 ∧ M_spread_w170 post T18 T32 T52 (gI S5 22 (x1).toNatClampNeg) x1 x3 x4 x5 x6 x7 r3 S5)))))))))) ∧ (¬ r2 = x1 → M_spread_w244 post T18 T32 T52 x1 x3 x4 x5 x6 x7 S2))))))))
set_option maxHeartbeats 4000000 in
set_option maxRecDepth 100000 in
theorem M_spread_a52 {p : Program} {l : Launch} {e : Env} {s : State} {m : MethodId} {args : Array Value} {below : List Frame} {meth : Method} {c : Code} {D : va_G} {dA : Nat → ClassId} {o : Nat → Nat} {A : Nat → Prop} {post : Int32 → MS → Prop} {T18 : Int32 → Int32 → Int32 → Int32 → MS → Prop} {T32 : Int32 → Int32 → Int32 → Int32 → Int32 → MS → Prop} {T52 : Int32 → Int32 → Int32 → Int32 → Int32 → Int32 → MS → Prop} (C : mC p m c cX5_spread 11 s args meth (Option.some Jvm.ClassFile.FieldType.int) A) (hT18 : ∀ (x1 : Int32) (x3 : Int32) (x4 : Int32) (x5 : Int32) (S : MS), T18 x1 x3 x4 x5 S → ∀ (H : Heap) (locs : List Loc) (ls : Array Slot), lv_has ls 11 [(0, .ref (o 0)), (1, .int x1), (3, .int x3), (4, .int x4), (5, .int x5)] → mw D dA o A s S H locs → W p l e rM_spread s m args below meth c H locs 0 0 (mQi below args s D dA o A post) (F0 m 18 ls [])) (hT32 : ∀ (x1 : Int32) (x3 : Int32) (x4 : Int32) (x5 : Int32) (x6 : Int32) (S : MS), T32 x1 x3 x4 x5 x6 S → ∀ (H : Heap) (locs : List Loc) (ls : Array Slot), lv_has ls 11 [(0, .ref (o 0)), (1, .int x1), (3, .int x3), (4, .int x4), (5, .int x5), (6, .int x6)] → mw D dA o A s S H locs → W p l e rM_spread s m args below meth c H locs 0 0 (mQi below args s D dA o A post) (F0 m 32 ls [])) (hT52 : ∀ (x1 : Int32) (x3 : Int32) (x4 : Int32) (x5 : Int32) (x6 : Int32) (x7 : Int32) (S : MS), T52 x1 x3 x4 x5 x6 x7 S → ∀ (H : Heap) (locs : List Loc) (ls : Array Slot), lv_has ls 11 [(0, .ref (o 0)), (1, .int x1), (3, .int x3), (4, .int x4), (5, .int x5), (6, .int x6), (7, .int x7)] → mw D dA o A s S H locs → W p l e rM_spread s m args below meth c H locs 0 0 (mQi below args s D dA o A post) (F0 m 52 ls [])) {x1 : Int32} {x3 : Int32} {x4 : Int32} {x5 : Int32} {x6 : Int32} {x7 : Int32} {S : MS} (h : M_spread_w52 post T18 T32 T52 x1 x3 x4 x5 x6 x7 S) {H : Heap} {locs : List Loc} {ls : Array Slot} (hl : lv_has ls 11 [(0, .ref (o 0)), (1, .int x1), (3, .int x3), (4, .int x4), (5, .int x5), (6, .int x6), (7, .int x7)]) (w : mw D dA o A s S H locs) : W p l e rM_spread s m args below meth c H locs 0 0 (mQi below args s D dA o A post) (F0 m 52 ls []) := by
  unfold M_spread_w52 at h
  obtain ⟨⟨hx, hb, hml, hown, hts⟩, hr, hlk, hA⟩ := id C
  refine lv_iload hx hb dX5_spread_52 (lv_at hl 5 rfl) ?_
  refine lv_iload hx hb dX5_spread_54 (lv_at hl 4 rfl) ?_
  refine lv_iconst (v := 4) hx hb dX5_spread_56 (by decide) ?_
  refine lv_irem hx hb dX5_spread_57 (by decide) ?_
  obtain ⟨h1, h2⟩ := h
  refine lv_icmp_eq (tgt := 250) hx hb dX5_spread_58 (by decide) (fun c1 => ?_) (fun c1 => ?_)
  · have h := h1 c1
    exact M_spread_a250 C hT18 hT32 hT52 h (lv_sub hl [0, 1, 2, 3, 4, 5] rfl) w
  · have h := h2 c1
    refine lv_iload hx hb dX5_spread_61 (lv_at hl 6 rfl) ?_
    refine lv_aload_n hx hb dX5_spread_63 rfl (lv_at hl 0 rfl) ?_
    refine lv_iload hx hb dX5_spread_64 (lv_at hl 3 rfl) ?_
    refine lv_iload hx hb dX5_spread_66 (lv_at hl 4 rfl) ?_
    refine lv_iconst (v := 4) hx hb dX5_spread_68 (by decide) ?_
    refine lv_irem hx hb dX5_spread_69 (by decide) ?_
    refine lv_iload hx hb dX5_spread_70 (lv_at hl 5 rfl) ?_
    refine mr_callVI (rest := [.int _]) C w h (lw_V q886 q888 qs72 q87 q889) M_arcs_d rfl rfl ⟨Nat.le_of_ble_eq_true rfl, Nat.le_of_ble_eq_true rfl⟩ rfl hl.1 rfl (Nat.le_of_ble_eq_true rfl) ⟨Nat.zero_le _, Nat.zero_le _⟩ dX5_spread_72 (fun r1 S1 H locs h w => ?_)
    obtain ⟨h1, h2⟩ := h
    refine lv_icmp_ge (tgt := 250) hx hb dX5_spread_75 (by decide) (fun c1 => ?_) (fun c1 => ?_)
    · have h := h1 c1
      exact M_spread_a250 C hT18 hT32 hT52 h (lv_sub hl [0, 1, 2, 3, 4, 5] rfl) w
    · have h := h2 c1
      refine lv_aload_n hx hb dX5_spread_78 rfl (lv_at hl 0 rfl) ?_
      refine lv_iload hx hb dX5_spread_79 (lv_at hl 4 rfl) ?_
      refine lv_iload hx hb dX5_spread_81 (lv_at hl 5 rfl) ?_
      refine lv_iload hx hb dX5_spread_83 (lv_at hl 6 rfl) ?_
      refine mr_callVI (rest := []) C w h (lw_V q915 q917 qs77 q87 q918) M_cutAt_d rfl rfl ⟨Nat.le_of_ble_eq_true rfl, Nat.le_of_ble_eq_true rfl⟩ rfl hl.1 rfl (Nat.le_of_ble_eq_true rfl) ⟨Nat.zero_le _, Nat.zero_le _⟩ dX5_spread_85 (fun r2 S2 H locs h w => ?_)
      refine lv_iload_n hx hb dX5_spread_88 rfl (lv_at hl 1 rfl) ?_
      obtain ⟨h1, h2⟩ := h
      refine lv_icmp_eq (tgt := 95) hx hb dX5_spread_89 (by decide) (fun c1 => ?_) (fun c1 => ?_)
      · have h := h1 c1
        refine lv_aload_n hx hb dX5_spread_95 rfl (lv_at hl 0 rfl) ?_
        refine mr_get C w 2 (by decide) q579 rfl rfl dX5_spread_96 ?_
        refine lv_iconst (v := 4) hx hb dX5_spread_99 (by decide) ?_
        refine lv_iload hx hb dX5_spread_100 (lv_at hl 4 rfl) ?_
        refine lv_imul hx hb dX5_spread_102 ?_
        refine lv_iload hx hb dX5_spread_103 (lv_at hl 5 rfl) ?_
        refine lv_iadd hx hb dX5_spread_105 ?_
        obtain ⟨hi, h⟩ := h
        refine mr_iald C w 2 1 rfl rfl hi dX5_spread_106 ?_
        refine lv_istore (lv' := [(8, .int _), (0, .ref _), (1, .int _), (3, .int _), (4, .int _), (5, .int _), (6, .int _), (7, .int _)]) hx hb dX5_spread_107 hl (by decide) rfl (fun ls hl => ?_)
        refine lv_aload_n hx hb dX5_spread_109 rfl (lv_at hl 1 rfl) ?_
        refine lv_aload_n hx hb dX5_spread_110 rfl (lv_at hl 1 rfl) ?_
        refine mr_get C w 1 (by decide) q578 rfl rfl dX5_spread_111 ?_
        refine lv_iload hx hb dX5_spread_114 (lv_at hl 5 rfl) ?_
        obtain ⟨hi, h⟩ := h
        refine mr_iald C w 1 0 rfl rfl hi dX5_spread_116 ?_
        refine lv_iload hx hb dX5_spread_117 (lv_at hl 0 rfl) ?_
        refine lv_iload hx hb dX5_spread_119 (lv_at hl 7 rfl) ?_
        refine mr_callVI (rest := []) C w h (lw_V q915 q917 qs77 q87 q918) M_cutAt_d rfl rfl ⟨Nat.le_of_ble_eq_true rfl, Nat.le_of_ble_eq_true rfl⟩ rfl hl.1 rfl (Nat.le_of_ble_eq_true rfl) ⟨Nat.zero_le _, Nat.zero_le _⟩ dX5_spread_121 (fun r3 S3 H locs h w => ?_)
        refine lv_istore (lv' := [(9, .int _), (8, .int _), (0, .ref _), (1, .int _), (3, .int _), (4, .int _), (5, .int _), (6, .int _), (7, .int _)]) hx hb dX5_spread_124 hl (by decide) rfl (fun ls hl => ?_)
        refine lv_aload_n hx hb dX5_spread_126 rfl (lv_at hl 2 rfl) ?_
        refine lv_iload hx hb dX5_spread_127 (lv_at hl 6 rfl) ?_
        refine lv_iload hx hb dX5_spread_129 (lv_at hl 7 rfl) ?_
        refine lv_iload hx hb dX5_spread_131 (lv_at hl 8 rfl) ?_
        refine mr_callVI (rest := []) C w h (lw_V q919 q921 qs78 q87 q922) M_looks_d rfl rfl ⟨Nat.le_of_ble_eq_true rfl, Nat.le_of_ble_eq_true rfl⟩ rfl hl.1 rfl (Nat.le_of_ble_eq_true rfl) ⟨Nat.zero_le _, Nat.zero_le _⟩ dX5_spread_133 (fun r4 S4 H locs h w => ?_)
        refine lv_aload_n hx hb dX5_spread_136 rfl (lv_at hl 2 rfl) ?_
        refine lv_aload_n hx hb dX5_spread_137 rfl (lv_at hl 2 rfl) ?_
        refine mr_get C w 1 (by decide) q578 rfl rfl dX5_spread_138 ?_
        refine lv_iload hx hb dX5_spread_141 (lv_at hl 6 rfl) ?_
        obtain ⟨hi, h⟩ := h
        refine mr_iald C w 1 0 rfl rfl hi dX5_spread_143 ?_
        refine lv_iload hx hb dX5_spread_144 (lv_at hl 1 rfl) ?_
        refine lv_iload hx hb dX5_spread_146 (lv_at hl 8 rfl) ?_
        refine mr_callVI (rest := [.int _]) C w h (lw_V q919 q921 qs78 q87 q922) M_looks_d rfl rfl ⟨Nat.le_of_ble_eq_true rfl, Nat.le_of_ble_eq_true rfl⟩ rfl hl.1 rfl (Nat.le_of_ble_eq_true rfl) ⟨Nat.zero_le _, Nat.zero_le _⟩ dX5_spread_148 (fun r5 S5 H locs h w => ?_)
        obtain ⟨h1, h2⟩ := h
        refine lv_icmp_ne (tgt := 163) hx hb dX5_spread_151 (by decide) (fun c1 => ?_) (fun c1 => ?_)
        · have h := h1 c1
          refine lv_aload_n hx hb dX5_spread_163 rfl (lv_at hl 2 rfl) ?_
          refine mr_get C w 22 (by decide) q599 rfl rfl dX5_spread_164 ?_
          refine lv_iload_n hx hb dX5_spread_167 rfl (lv_at hl 3 rfl) ?_
          obtain ⟨hi, h⟩ := h
          refine mr_iald C w 16 15 rfl rfl hi dX5_spread_168 ?_
          refine lv_ineg hx hb dX5_spread_169 ?_
          exact M_spread_a170 C hT18 hT32 hT52 h (lv_sub hl [2, 3, 4, 5, 6, 7, 8, 0] rfl) w
        · have h := h2 c1
          refine lv_aload_n hx hb dX5_spread_154 rfl (lv_at hl 2 rfl) ?_
          refine mr_get C w 22 (by decide) q599 rfl rfl dX5_spread_155 ?_
          refine lv_iload_n hx hb dX5_spread_158 rfl (lv_at hl 3 rfl) ?_
          obtain ⟨hi, h⟩ := h
          refine mr_iald C w 16 15 rfl rfl hi dX5_spread_159 ?_
          refine lv_goto (tgt := 170) hx hb dX5_spread_160 (by decide) ?_
          exact M_spread_a170 C hT18 hT32 hT52 h (lv_sub hl [2, 3, 4, 5, 6, 7, 8, 0] rfl) w
      · have h := h2 c1
        refine lv_goto (tgt := 244) hx hb dX5_spread_92 (by decide) ?_
        exact M_spread_a244 C hT18 hT32 hT52 h (lv_sub hl [0, 1, 2, 3, 4, 5, 6] rfl) w
def M_spread_w32 (post : Int32 → MS → Prop) (T18 : Int32 → Int32 → Int32 → Int32 → MS → Prop) (T32 : Int32 → Int32 → Int32 → Int32 → Int32 → MS → Prop) (T52 : Int32 → Int32 → Int32 → Int32 → Int32 → Int32 → MS → Prop) (x1 : Int32) (x3 : Int32) (x4 : Int32) (x5 : Int32) (x6 : Int32) (S : MS) : Prop :=
  (((4 : Int32) ≤ x6 → M_spread_w256 post T18 T32 T52 x1 x3 x4 x5 S) ∧ (¬ (4 : Int32) ≤ x6 → (vp_in x5 12 ∧ (((gI S 1 (x5).toNatClampNeg) = (-1 : Int32) → M_spread_w256 post T18 T32 T52 x1 x3 x4 x5 S) ∧ (¬ (gI S 1 (x5).toNatClampNeg) = (-1 : Int32) → T52 x1 x3 x4 x5 x6 (0 : Int32) S)))))
set_option maxHeartbeats 4000000 in
set_option maxRecDepth 100000 in
theorem M_spread_a32 {p : Program} {l : Launch} {e : Env} {s : State} {m : MethodId} {args : Array Value} {below : List Frame} {meth : Method} {c : Code} {D : va_G} {dA : Nat → ClassId} {o : Nat → Nat} {A : Nat → Prop} {post : Int32 → MS → Prop} {T18 : Int32 → Int32 → Int32 → Int32 → MS → Prop} {T32 : Int32 → Int32 → Int32 → Int32 → Int32 → MS → Prop} {T52 : Int32 → Int32 → Int32 → Int32 → Int32 → Int32 → MS → Prop} (C : mC p m c cX5_spread 11 s args meth (Option.some Jvm.ClassFile.FieldType.int) A) (hT18 : ∀ (x1 : Int32) (x3 : Int32) (x4 : Int32) (x5 : Int32) (S : MS), T18 x1 x3 x4 x5 S → ∀ (H : Heap) (locs : List Loc) (ls : Array Slot), lv_has ls 11 [(0, .ref (o 0)), (1, .int x1), (3, .int x3), (4, .int x4), (5, .int x5)] → mw D dA o A s S H locs → W p l e rM_spread s m args below meth c H locs 0 0 (mQi below args s D dA o A post) (F0 m 18 ls [])) (hT32 : ∀ (x1 : Int32) (x3 : Int32) (x4 : Int32) (x5 : Int32) (x6 : Int32) (S : MS), T32 x1 x3 x4 x5 x6 S → ∀ (H : Heap) (locs : List Loc) (ls : Array Slot), lv_has ls 11 [(0, .ref (o 0)), (1, .int x1), (3, .int x3), (4, .int x4), (5, .int x5), (6, .int x6)] → mw D dA o A s S H locs → W p l e rM_spread s m args below meth c H locs 0 0 (mQi below args s D dA o A post) (F0 m 32 ls [])) (hT52 : ∀ (x1 : Int32) (x3 : Int32) (x4 : Int32) (x5 : Int32) (x6 : Int32) (x7 : Int32) (S : MS), T52 x1 x3 x4 x5 x6 x7 S → ∀ (H : Heap) (locs : List Loc) (ls : Array Slot), lv_has ls 11 [(0, .ref (o 0)), (1, .int x1), (3, .int x3), (4, .int x4), (5, .int x5), (6, .int x6), (7, .int x7)] → mw D dA o A s S H locs → W p l e rM_spread s m args below meth c H locs 0 0 (mQi below args s D dA o A post) (F0 m 52 ls [])) {x1 : Int32} {x3 : Int32} {x4 : Int32} {x5 : Int32} {x6 : Int32} {S : MS} (h : M_spread_w32 post T18 T32 T52 x1 x3 x4 x5 x6 S) {H : Heap} {locs : List Loc} {ls : Array Slot} (hl : lv_has ls 11 [(0, .ref (o 0)), (1, .int x1), (3, .int x3), (4, .int x4), (5, .int x5), (6, .int x6)]) (w : mw D dA o A s S H locs) : W p l e rM_spread s m args below meth c H locs 0 0 (mQi below args s D dA o A post) (F0 m 32 ls []) := by
  unfold M_spread_w32 at h
  obtain ⟨⟨hx, hb, hml, hown, hts⟩, hr, hlk, hA⟩ := id C
  refine lv_iload hx hb dX5_spread_32 (lv_at hl 5 rfl) ?_
  refine lv_iconst (v := 4) hx hb dX5_spread_34 (by decide) ?_
  obtain ⟨h1, h2⟩ := h
  refine lv_icmp_ge (tgt := 256) hx hb dX5_spread_35 (by decide) (fun c1 => ?_) (fun c1 => ?_)
  · have h := h1 c1
    exact M_spread_a256 C hT18 hT32 hT52 h (lv_sub hl [0, 1, 2, 3, 4] rfl) w
  · have h := h2 c1
    refine lv_aload_n hx hb dX5_spread_38 rfl (lv_at hl 0 rfl) ?_
    refine mr_get C w 1 (by decide) q578 rfl rfl dX5_spread_39 ?_
    refine lv_iload hx hb dX5_spread_42 (lv_at hl 4 rfl) ?_
    obtain ⟨hi, h⟩ := h
    refine mr_iald C w 1 0 rfl rfl hi dX5_spread_44 ?_
    refine lv_iconst (v := -1) hx hb dX5_spread_45 (by decide) ?_
    obtain ⟨h1, h2⟩ := h
    refine lv_icmp_eq (tgt := 256) hx hb dX5_spread_46 (by decide) (fun c1 => ?_) (fun c1 => ?_)
    · have h := h1 c1
      exact M_spread_a256 C hT18 hT32 hT52 h (lv_sub hl [0, 1, 2, 3, 4] rfl) w
    · have h := h2 c1
      refine lv_iconst (v := 0) hx hb dX5_spread_49 (by decide) ?_
      refine lv_istore (lv' := [(7, .int _), (0, .ref _), (1, .int _), (3, .int _), (4, .int _), (5, .int _), (6, .int _)]) hx hb dX5_spread_50 hl (by decide) rfl (fun ls hl => ?_)
      exact hT52 _ _ _ _ _ _ _ h _ _ _ (lv_sub hl [1, 2, 3, 4, 5, 6, 0] rfl) w
def M_spread_w18 (post : Int32 → MS → Prop) (T18 : Int32 → Int32 → Int32 → Int32 → MS → Prop) (T32 : Int32 → Int32 → Int32 → Int32 → Int32 → MS → Prop) (T52 : Int32 → Int32 → Int32 → Int32 → Int32 → Int32 → MS → Prop) (x1 : Int32) (x3 : Int32) (x4 : Int32) (x5 : Int32) (S : MS) : Prop :=
  (((((4 : Int32) * x4) + (4 : Int32)) ≤ x5 → post x3 S) ∧ (¬ (((4 : Int32) * x4) + (4 : Int32)) ≤ x5 → T32 x1 x3 x4 x5 (0 : Int32) S))
set_option maxHeartbeats 4000000 in
set_option maxRecDepth 100000 in
theorem M_spread_a18 {p : Program} {l : Launch} {e : Env} {s : State} {m : MethodId} {args : Array Value} {below : List Frame} {meth : Method} {c : Code} {D : va_G} {dA : Nat → ClassId} {o : Nat → Nat} {A : Nat → Prop} {post : Int32 → MS → Prop} {T18 : Int32 → Int32 → Int32 → Int32 → MS → Prop} {T32 : Int32 → Int32 → Int32 → Int32 → Int32 → MS → Prop} {T52 : Int32 → Int32 → Int32 → Int32 → Int32 → Int32 → MS → Prop} (C : mC p m c cX5_spread 11 s args meth (Option.some Jvm.ClassFile.FieldType.int) A) (hT18 : ∀ (x1 : Int32) (x3 : Int32) (x4 : Int32) (x5 : Int32) (S : MS), T18 x1 x3 x4 x5 S → ∀ (H : Heap) (locs : List Loc) (ls : Array Slot), lv_has ls 11 [(0, .ref (o 0)), (1, .int x1), (3, .int x3), (4, .int x4), (5, .int x5)] → mw D dA o A s S H locs → W p l e rM_spread s m args below meth c H locs 0 0 (mQi below args s D dA o A post) (F0 m 18 ls [])) (hT32 : ∀ (x1 : Int32) (x3 : Int32) (x4 : Int32) (x5 : Int32) (x6 : Int32) (S : MS), T32 x1 x3 x4 x5 x6 S → ∀ (H : Heap) (locs : List Loc) (ls : Array Slot), lv_has ls 11 [(0, .ref (o 0)), (1, .int x1), (3, .int x3), (4, .int x4), (5, .int x5), (6, .int x6)] → mw D dA o A s S H locs → W p l e rM_spread s m args below meth c H locs 0 0 (mQi below args s D dA o A post) (F0 m 32 ls [])) (hT52 : ∀ (x1 : Int32) (x3 : Int32) (x4 : Int32) (x5 : Int32) (x6 : Int32) (x7 : Int32) (S : MS), T52 x1 x3 x4 x5 x6 x7 S → ∀ (H : Heap) (locs : List Loc) (ls : Array Slot), lv_has ls 11 [(0, .ref (o 0)), (1, .int x1), (3, .int x3), (4, .int x4), (5, .int x5), (6, .int x6), (7, .int x7)] → mw D dA o A s S H locs → W p l e rM_spread s m args below meth c H locs 0 0 (mQi below args s D dA o A post) (F0 m 52 ls [])) {x1 : Int32} {x3 : Int32} {x4 : Int32} {x5 : Int32} {S : MS} (h : M_spread_w18 post T18 T32 T52 x1 x3 x4 x5 S) {H : Heap} {locs : List Loc} {ls : Array Slot} (hl : lv_has ls 11 [(0, .ref (o 0)), (1, .int x1), (3, .int x3), (4, .int x4), (5, .int x5)]) (w : mw D dA o A s S H locs) : W p l e rM_spread s m args below meth c H locs 0 0 (mQi below args s D dA o A post) (F0 m 18 ls []) := by
  unfold M_spread_w18 at h
  obtain ⟨⟨hx, hb, hml, hown, hts⟩, hr, hlk, hA⟩ := id C
  refine lv_iload hx hb dX5_spread_18 (lv_at hl 4 rfl) ?_
  refine lv_iconst (v := 4) hx hb dX5_spread_20 (by decide) ?_
  refine lv_iload hx hb dX5_spread_21 (lv_at hl 3 rfl) ?_
  refine lv_imul hx hb dX5_spread_23 ?_
  refine lv_iconst (v := 4) hx hb dX5_spread_24 (by decide) ?_
  refine lv_iadd hx hb dX5_spread_25 ?_
  obtain ⟨h1, h2⟩ := h
  refine lv_icmp_ge (tgt := 262) hx hb dX5_spread_26 (by decide) (fun c1 => ?_) (fun c1 => ?_)
  · have h := h1 c1
    refine lv_iload_n hx hb dX5_spread_262 rfl (lv_at hl 2 rfl) ?_
    exact mr_iret C w h dX5_spread_263
  · have h := h2 c1
    refine lv_iconst (v := 0) hx hb dX5_spread_29 (by decide) ?_
    refine lv_istore (lv' := [(6, .int _), (0, .ref _), (1, .int _), (3, .int _), (4, .int _), (5, .int _)]) hx hb dX5_spread_30 hl (by decide) rfl (fun ls hl => ?_)
    exact hT32 _ _ _ _ _ _ h _ _ _ (lv_sub hl [1, 2, 3, 4, 5, 0] rfl) w
def M_spread_w0 (post : Int32 → MS → Prop) (T18 : Int32 → Int32 → Int32 → Int32 → MS → Prop) (T32 : Int32 → Int32 → Int32 → Int32 → Int32 → MS → Prop) (T52 : Int32 → Int32 → Int32 → Int32 → Int32 → Int32 → MS → Prop) (x1 : Int32) (x2 : Int32) (S : MS) : Prop :=
  M_sortOf x1 S (fun (r1 : Int32) (S1 : MS) => T18 x1 x2 (r1 / (7 : Int32)) ((4 : Int32) * (r1 / (7 : Int32))) S1)
set_option maxHeartbeats 4000000 in
set_option maxRecDepth 100000 in
theorem M_spread_a0 {p : Program} {l : Launch} {e : Env} {s : State} {m : MethodId} {args : Array Value} {below : List Frame} {meth : Method} {c : Code} {D : va_G} {dA : Nat → ClassId} {o : Nat → Nat} {A : Nat → Prop} {post : Int32 → MS → Prop} {T18 : Int32 → Int32 → Int32 → Int32 → MS → Prop} {T32 : Int32 → Int32 → Int32 → Int32 → Int32 → MS → Prop} {T52 : Int32 → Int32 → Int32 → Int32 → Int32 → Int32 → MS → Prop} (C : mC p m c cX5_spread 11 s args meth (Option.some Jvm.ClassFile.FieldType.int) A) (hT18 : ∀ (x1 : Int32) (x3 : Int32) (x4 : Int32) (x5 : Int32) (S : MS), T18 x1 x3 x4 x5 S → ∀ (H : Heap) (locs : List Loc) (ls : Array Slot), lv_has ls 11 [(0, .ref (o 0)), (1, .int x1), (3, .int x3), (4, .int x4), (5, .int x5)] → mw D dA o A s S H locs → W p l e rM_spread s m args below meth c H locs 0 0 (mQi below args s D dA o A post) (F0 m 18 ls [])) (hT32 : ∀ (x1 : Int32) (x3 : Int32) (x4 : Int32) (x5 : Int32) (x6 : Int32) (S : MS), T32 x1 x3 x4 x5 x6 S → ∀ (H : Heap) (locs : List Loc) (ls : Array Slot), lv_has ls 11 [(0, .ref (o 0)), (1, .int x1), (3, .int x3), (4, .int x4), (5, .int x5), (6, .int x6)] → mw D dA o A s S H locs → W p l e rM_spread s m args below meth c H locs 0 0 (mQi below args s D dA o A post) (F0 m 32 ls [])) (hT52 : ∀ (x1 : Int32) (x3 : Int32) (x4 : Int32) (x5 : Int32) (x6 : Int32) (x7 : Int32) (S : MS), T52 x1 x3 x4 x5 x6 x7 S → ∀ (H : Heap) (locs : List Loc) (ls : Array Slot), lv_has ls 11 [(0, .ref (o 0)), (1, .int x1), (3, .int x3), (4, .int x4), (5, .int x5), (6, .int x6), (7, .int x7)] → mw D dA o A s S H locs → W p l e rM_spread s m args below meth c H locs 0 0 (mQi below args s D dA o A post) (F0 m 52 ls [])) {x1 : Int32} {x2 : Int32} {S : MS} (h : M_spread_w0 post T18 T32 T52 x1 x2 S) {H : Heap} {locs : List Loc} {ls : Array Slot} (hl : lv_has ls 11 [(0, .ref (o 0)), (1, .int x1), (2, .int x2)]) (w : mw D dA o A s S H locs) : W p l e rM_spread s m args below meth c H locs 0 0 (mQi below args s D dA o A post) (F0 m 0 ls []) := by
  unfold M_spread_w0 at h
  obtain ⟨⟨hx, hb, hml, hown, hts⟩, hr, hlk, hA⟩ := id C
  refine lv_iload_n hx hb dX5_spread_0 rfl (lv_at hl 2 rfl) ?_
  refine lv_istore_n (lv' := [(3, .int _), (0, .ref _), (1, .int _), (2, .int _)]) hx hb dX5_spread_1 rfl hl (by decide) rfl (fun ls hl => ?_)
  refine lv_aload_n hx hb dX5_spread_2 rfl (lv_at hl 1 rfl) ?_
  refine lv_iload_n hx hb dX5_spread_3 rfl (lv_at hl 2 rfl) ?_
  refine mr_callVI (rest := []) C w h (lw_V q911 q913 qs76 q87 q914) M_sortOf_d rfl rfl ⟨Nat.le_of_ble_eq_true rfl, Nat.le_of_ble_eq_true rfl⟩ rfl hl.1 rfl (Nat.le_of_ble_eq_true rfl) ⟨Nat.zero_le _, Nat.zero_le _⟩ dX5_spread_4 (fun r1 S1 H locs h w => ?_)
  refine lv_bipush (v := 7) hx hb dX5_spread_7 (by decide) ?_
  refine lv_idiv hx hb dX5_spread_9 (by decide) ?_
  refine lv_istore (lv' := [(4, .int _), (3, .int _), (0, .ref _), (1, .int _), (2, .int _)]) hx hb dX5_spread_10 hl (by decide) rfl (fun ls hl => ?_)
  refine lv_iconst (v := 4) hx hb dX5_spread_12 (by decide) ?_
  refine lv_iload hx hb dX5_spread_13 (lv_at hl 0 rfl) ?_
  refine lv_imul hx hb dX5_spread_15 ?_
  refine lv_istore (lv' := [(5, .int _), (4, .int _), (3, .int _), (0, .ref _), (1, .int _), (2, .int _)]) hx hb dX5_spread_16 hl (by decide) rfl (fun ls hl => ?_)
  exact hT18 _ _ _ _ _ h _ _ _ (lv_sub hl [3, 4, 2, 1, 0] rfl) w
def M_spread_VC (x1 : Int32) (x2 : Int32) (S : MS) (post : Int32 → MS → Prop) : Prop := ∀ (T18 : Int32 → Int32 → Int32 → Int32 → MS → Prop) (T32 : Int32 → Int32 → Int32 → Int32 → Int32 → MS → Prop) (T52 : Int32 → Int32 → Int32 → Int32 → Int32 → Int32 → MS → Prop), (∀ (x1 : Int32) (x3 : Int32) (x4 : Int32) (x5 : Int32) (S : MS), M_spread_w18 post T18 T32 T52 x1 x3 x4 x5 S → T18 x1 x3 x4 x5 S) → (∀ (x1 : Int32) (x3 : Int32) (x4 : Int32) (x5 : Int32) (x6 : Int32) (S : MS), M_spread_w32 post T18 T32 T52 x1 x3 x4 x5 x6 S → T32 x1 x3 x4 x5 x6 S) → (∀ (x1 : Int32) (x3 : Int32) (x4 : Int32) (x5 : Int32) (x6 : Int32) (x7 : Int32) (S : MS), M_spread_w52 post T18 T32 T52 x1 x3 x4 x5 x6 x7 S → T52 x1 x3 x4 x5 x6 x7 S) → M_spread_w0 post T18 T32 T52 x1 x2 S
theorem M_spread_ok {x1 : Int32} {x2 : Int32} {S : MS} {post : Int32 → MS → Prop} (h : M_spread_VC x1 x2 S post) : M_spread x1 x2 S post := by
  intro l D dA o sz
  refine mr_start (fun A => va_Qi post (mB D dA o A) A) rfl (Nat.le_of_ble_eq_true rfl) (by decide) ?_
  intro p e s m args below meth c ls A C w hl
  have hl : lv_has ls 11 [(0, .ref (o 0)), (1, .int x1), (2, .int x2)] := hl
  have h := h (fun (x1 : Int32) (x3 : Int32) (x4 : Int32) (x5 : Int32) S => ∀ (H : Heap) (locs : List Loc) (ls : Array Slot), lv_has ls 11 [(0, .ref (o 0)), (1, .int x1), (3, .int x3), (4, .int x4), (5, .int x5)] → mw D dA o A s S H locs → W p l e rM_spread s m args below meth c H locs 0 0 (mQi below args s D dA o A post) (F0 m 18 ls [])) (fun (x1 : Int32) (x3 : Int32) (x4 : Int32) (x5 : Int32) (x6 : Int32) S => ∀ (H : Heap) (locs : List Loc) (ls : Array Slot), lv_has ls 11 [(0, .ref (o 0)), (1, .int x1), (3, .int x3), (4, .int x4), (5, .int x5), (6, .int x6)] → mw D dA o A s S H locs → W p l e rM_spread s m args below meth c H locs 0 0 (mQi below args s D dA o A post) (F0 m 32 ls [])) (fun (x1 : Int32) (x3 : Int32) (x4 : Int32) (x5 : Int32) (x6 : Int32) (x7 : Int32) S => ∀ (H : Heap) (locs : List Loc) (ls : Array Slot), lv_has ls 11 [(0, .ref (o 0)), (1, .int x1), (3, .int x3), (4, .int x4), (5, .int x5), (6, .int x6), (7, .int x7)] → mw D dA o A s S H locs → W p l e rM_spread s m args below meth c H locs 0 0 (mQi below args s D dA o A post) (F0 m 52 ls [])) (fun _ _ _ _ S h H locs ls hl w => M_spread_a18 C (fun _ _ _ _ _ h => h) (fun _ _ _ _ _ _ h => h) (fun _ _ _ _ _ _ _ h => h) h hl w) (fun _ _ _ _ _ S h H locs ls hl w => M_spread_a32 C (fun _ _ _ _ _ h => h) (fun _ _ _ _ _ _ h => h) (fun _ _ _ _ _ _ _ h => h) h hl w) (fun _ _ _ _ _ _ S h H locs ls hl w => M_spread_a52 C (fun _ _ _ _ _ h => h) (fun _ _ _ _ _ _ h => h) (fun _ _ _ _ _ _ _ h => h) h hl w)
  exact M_spread_a0 C (fun _ _ _ _ _ h => h) (fun _ _ _ _ _ _ h => h) (fun _ _ _ _ _ _ _ h => h) h (lv_sub hl [0, 1, 2] rfl) w

/-! findParts()I -/
def M_findParts_w209 (post : Int32 → MS → Prop) (T11 : Int32 → MS → Prop) (T73 : Int32 → Int32 → MS → Prop) (T106 : Int32 → Int32 → MS → Prop) (T165 : Int32 → Int32 → Int32 → Int32 → MS → Prop) (x1 : Int32) (S : MS) : Prop :=
  post x1 S
set_option maxHeartbeats 4000000 in
set_option maxRecDepth 100000 in
theorem M_findParts_a209 {p : Program} {l : Launch} {e : Env} {s : State} {m : MethodId} {args : Array Value} {below : List Frame} {meth : Method} {c : Code} {D : va_G} {dA : Nat → ClassId} {o : Nat → Nat} {A : Nat → Prop} {post : Int32 → MS → Prop} {T11 : Int32 → MS → Prop} {T73 : Int32 → Int32 → MS → Prop} {T106 : Int32 → Int32 → MS → Prop} {T165 : Int32 → Int32 → Int32 → Int32 → MS → Prop} (C : mC p m c cX5_findParts 5 s args meth (Option.some Jvm.ClassFile.FieldType.int) A) (hT11 : ∀ (x1 : Int32) (S : MS), T11 x1 S → ∀ (H : Heap) (locs : List Loc) (ls : Array Slot), lv_has ls 5 [(0, .ref (o 0)), (1, .int x1)] → mw D dA o A s S H locs → W p l e rM_findParts s m args below meth c H locs 0 0 (mQi below args s D dA o A post) (F0 m 11 ls [])) (hT73 : ∀ (x1 : Int32) (x2 : Int32) (S : MS), T73 x1 x2 S → ∀ (H : Heap) (locs : List Loc) (ls : Array Slot), lv_has ls 5 [(0, .ref (o 0)), (1, .int x1), (2, .int x2)] → mw D dA o A s S H locs → W p l e rM_findParts s m args below meth c H locs 0 0 (mQi below args s D dA o A post) (F0 m 73 ls [])) (hT106 : ∀ (x1 : Int32) (x2 : Int32) (S : MS), T106 x1 x2 S → ∀ (H : Heap) (locs : List Loc) (ls : Array Slot), lv_has ls 5 [(0, .ref (o 0)), (1, .int x1), (2, .int x2)] → mw D dA o A s S H locs → W p l e rM_findParts s m args below meth c H locs 0 0 (mQi below args s D dA o A post) (F0 m 106 ls [])) (hT165 : ∀ (x1 : Int32) (x2 : Int32) (x3 : Int32) (x4 : Int32) (S : MS), T165 x1 x2 x3 x4 S → ∀ (H : Heap) (locs : List Loc) (ls : Array Slot), lv_has ls 5 [(0, .ref (o 0)), (1, .int x1), (2, .int x2), (3, .int x3), (4, .int x4)] → mw D dA o A s S H locs → W p l e rM_findParts s m args below meth c H locs 0 0 (mQi below args s D dA o A post) (F0 m 165 ls [])) {x1 : Int32} {S : MS} (h : M_findParts_w209 post T11 T73 T106 T165 x1 S) {H : Heap} {locs : List Loc} {ls : Array Slot} (hl : lv_has ls 5 [(0, .ref (o 0)), (1, .int x1)]) (w : mw D dA o A s S H locs) : W p l e rM_findParts s m args below meth c H locs 0 0 (mQi below args s D dA o A post) (F0 m 209 ls []) := by
  unfold M_findParts_w209 at h
  obtain ⟨⟨hx, hb, hml, hown, hts⟩, hr, hlk, hA⟩ := id C
  refine lv_iload_n hx hb dX5_findParts_209 rfl (lv_at hl 1 rfl) ?_
  exact mr_iret C w h dX5_findParts_210
def M_findParts_w203 (post : Int32 → MS → Prop) (T11 : Int32 → MS → Prop) (T73 : Int32 → Int32 → MS → Prop) (T106 : Int32 → Int32 → MS → Prop) (T165 : Int32 → Int32 → Int32 → Int32 → MS → Prop) (x1 : Int32) (x2 : Int32) (S : MS) : Prop :=
  T106 x1 (x2 + (1 : Int32)) S
set_option maxHeartbeats 4000000 in
set_option maxRecDepth 100000 in
theorem M_findParts_a203 {p : Program} {l : Launch} {e : Env} {s : State} {m : MethodId} {args : Array Value} {below : List Frame} {meth : Method} {c : Code} {D : va_G} {dA : Nat → ClassId} {o : Nat → Nat} {A : Nat → Prop} {post : Int32 → MS → Prop} {T11 : Int32 → MS → Prop} {T73 : Int32 → Int32 → MS → Prop} {T106 : Int32 → Int32 → MS → Prop} {T165 : Int32 → Int32 → Int32 → Int32 → MS → Prop} (C : mC p m c cX5_findParts 5 s args meth (Option.some Jvm.ClassFile.FieldType.int) A) (hT11 : ∀ (x1 : Int32) (S : MS), T11 x1 S → ∀ (H : Heap) (locs : List Loc) (ls : Array Slot), lv_has ls 5 [(0, .ref (o 0)), (1, .int x1)] → mw D dA o A s S H locs → W p l e rM_findParts s m args below meth c H locs 0 0 (mQi below args s D dA o A post) (F0 m 11 ls [])) (hT73 : ∀ (x1 : Int32) (x2 : Int32) (S : MS), T73 x1 x2 S → ∀ (H : Heap) (locs : List Loc) (ls : Array Slot), lv_has ls 5 [(0, .ref (o 0)), (1, .int x1), (2, .int x2)] → mw D dA o A s S H locs → W p l e rM_findParts s m args below meth c H locs 0 0 (mQi below args s D dA o A post) (F0 m 73 ls [])) (hT106 : ∀ (x1 : Int32) (x2 : Int32) (S : MS), T106 x1 x2 S → ∀ (H : Heap) (locs : List Loc) (ls : Array Slot), lv_has ls 5 [(0, .ref (o 0)), (1, .int x1), (2, .int x2)] → mw D dA o A s S H locs → W p l e rM_findParts s m args below meth c H locs 0 0 (mQi below args s D dA o A post) (F0 m 106 ls [])) (hT165 : ∀ (x1 : Int32) (x2 : Int32) (x3 : Int32) (x4 : Int32) (S : MS), T165 x1 x2 x3 x4 S → ∀ (H : Heap) (locs : List Loc) (ls : Array Slot), lv_has ls 5 [(0, .ref (o 0)), (1, .int x1), (2, .int x2), (3, .int x3), (4, .int x4)] → mw D dA o A s S H locs → W p l e rM_findParts s m args below meth c H locs 0 0 (mQi below args s D dA o A post) (F0 m 165 ls [])) {x1 : Int32} {x2 : Int32} {S : MS} (h : M_findParts_w203 post T11 T73 T106 T165 x1 x2 S) {H : Heap} {locs : List Loc} {ls : Array Slot} (hl : lv_has ls 5 [(0, .ref (o 0)), (1, .int x1), (2, .int x2)]) (w : mw D dA o A s S H locs) : W p l e rM_findParts s m args below meth c H locs 0 0 (mQi below args s D dA o A post) (F0 m 203 ls []) := by
  unfold M_findParts_w203 at h
  obtain ⟨⟨hx, hb, hml, hown, hts⟩, hr, hlk, hA⟩ := id C
  refine lv_iinc (v := _ + (1 : Int32)) (lv' := [(2, .int _), (0, .ref _), (1, .int _)]) hx hb dX5_findParts_203 hl (k := 2) rfl rfl (by decide) rfl (fun ls hl => ?_)
  refine lv_goto (tgt := 106) hx hb dX5_findParts_206 (by decide) ?_
  exact hT106 _ _ _ h _ _ _ (lv_sub hl [1, 2, 0] rfl) w
def M_findParts_w165 (post : Int32 → MS → Prop) (T11 : Int32 → MS → Prop) (T73 : Int32 → Int32 → MS → Prop) (T106 : Int32 → Int32 → MS → Prop) (T165 : Int32 → Int32 → Int32 → Int32 → MS → Prop) (x1 : Int32) (x2 : Int32) (x3 : Int32) (x4 : Int32) (S : MS) : Prop :=
  ((x3 ≤ x4 → (vp_in x1 400 ∧ (zok (gF S 24) ∧ (fun (S1 : MS) => M_findParts_w203 post T11 T73 T106 T165 (x1 + (1 : Int32)) x2 S1) (sI S 25 (x1).toNatClampNeg (gF S 24))))) ∧ (¬ x3 ≤ x4 → (vp_in x4 400 ∧ M_spread (gI S 23 (x4).toNatClampNeg) x3 S (fun (r2 : Int32) (S2 : MS) => T165 x1 x2 r2 (x4 + (1 : Int32)) S2))))
set_option maxHeartbeats 4000000 in
set_option maxRecDepth 100000 in
theorem M_findParts_a165 {p : Program} {l : Launch} {e : Env} {s : State} {m : MethodId} {args : Array Value} {below : List Frame} {meth : Method} {c : Code} {D : va_G} {dA : Nat → ClassId} {o : Nat → Nat} {A : Nat → Prop} {post : Int32 → MS → Prop} {T11 : Int32 → MS → Prop} {T73 : Int32 → Int32 → MS → Prop} {T106 : Int32 → Int32 → MS → Prop} {T165 : Int32 → Int32 → Int32 → Int32 → MS → Prop} (C : mC p m c cX5_findParts 5 s args meth (Option.some Jvm.ClassFile.FieldType.int) A) (hT11 : ∀ (x1 : Int32) (S : MS), T11 x1 S → ∀ (H : Heap) (locs : List Loc) (ls : Array Slot), lv_has ls 5 [(0, .ref (o 0)), (1, .int x1)] → mw D dA o A s S H locs → W p l e rM_findParts s m args below meth c H locs 0 0 (mQi below args s D dA o A post) (F0 m 11 ls [])) (hT73 : ∀ (x1 : Int32) (x2 : Int32) (S : MS), T73 x1 x2 S → ∀ (H : Heap) (locs : List Loc) (ls : Array Slot), lv_has ls 5 [(0, .ref (o 0)), (1, .int x1), (2, .int x2)] → mw D dA o A s S H locs → W p l e rM_findParts s m args below meth c H locs 0 0 (mQi below args s D dA o A post) (F0 m 73 ls [])) (hT106 : ∀ (x1 : Int32) (x2 : Int32) (S : MS), T106 x1 x2 S → ∀ (H : Heap) (locs : List Loc) (ls : Array Slot), lv_has ls 5 [(0, .ref (o 0)), (1, .int x1), (2, .int x2)] → mw D dA o A s S H locs → W p l e rM_findParts s m args below meth c H locs 0 0 (mQi below args s D dA o A post) (F0 m 106 ls [])) (hT165 : ∀ (x1 : Int32) (x2 : Int32) (x3 : Int32) (x4 : Int32) (S : MS), T165 x1 x2 x3 x4 S → ∀ (H : Heap) (locs : List Loc) (ls : Array Slot), lv_has ls 5 [(0, .ref (o 0)), (1, .int x1), (2, .int x2), (3, .int x3), (4, .int x4)] → mw D dA o A s S H locs → W p l e rM_findParts s m args below meth c H locs 0 0 (mQi below args s D dA o A post) (F0 m 165 ls [])) {x1 : Int32} {x2 : Int32} {x3 : Int32} {x4 : Int32} {S : MS} (h : M_findParts_w165 post T11 T73 T106 T165 x1 x2 x3 x4 S) {H : Heap} {locs : List Loc} {ls : Array Slot} (hl : lv_has ls 5 [(0, .ref (o 0)), (1, .int x1), (2, .int x2), (3, .int x3), (4, .int x4)]) (w : mw D dA o A s S H locs) : W p l e rM_findParts s m args below meth c H locs 0 0 (mQi below args s D dA o A post) (F0 m 165 ls []) := by
  unfold M_findParts_w165 at h
  obtain ⟨⟨hx, hb, hml, hown, hts⟩, hr, hlk, hA⟩ := id C
  refine lv_iload hx hb dX5_findParts_165 (lv_at hl 4 rfl) ?_
  refine lv_iload_n hx hb dX5_findParts_167 rfl (lv_at hl 3 rfl) ?_
  obtain ⟨h1, h2⟩ := h
  refine lv_icmp_ge (tgt := 190) hx hb dX5_findParts_168 (by decide) (fun c1 => ?_) (fun c1 => ?_)
  · have h := h1 c1
    refine lv_aload_n hx hb dX5_findParts_190 rfl (lv_at hl 0 rfl) ?_
    refine mr_get C w 25 (by decide) q602 rfl rfl dX5_findParts_191 ?_
    refine lv_iload_n hx hb dX5_findParts_194 rfl (lv_at hl 1 rfl) ?_
    refine lv_aload_n hx hb dX5_findParts_195 rfl (lv_at hl 0 rfl) ?_
    refine mr_get C w 24 (by decide) q601 rfl rfl dX5_findParts_196 ?_
    obtain ⟨hi, h⟩ := h
    obtain ⟨hz, h⟩ := h
    refine mr_zast C w hi (zok_v hz) dX5_findParts_199 (fun H locs w => ?_)
    refine lv_iinc (v := _ + (1 : Int32)) (lv' := [(1, .int _), (0, .ref _), (2, .int _), (3, .int _), (4, .int _)]) hx hb dX5_findParts_200 hl (k := 1) rfl rfl (by decide) rfl (fun ls hl => ?_)
    exact M_findParts_a203 C hT11 hT73 hT106 hT165 h (lv_sub hl [1, 0, 2] rfl) w
  · have h := h2 c1
    refine lv_aload_n hx hb dX5_findParts_171 rfl (lv_at hl 0 rfl) ?_
    refine lv_aload_n hx hb dX5_findParts_172 rfl (lv_at hl 0 rfl) ?_
    refine mr_get C w 23 (by decide) q600 rfl rfl dX5_findParts_173 ?_
    refine lv_iload hx hb dX5_findParts_176 (lv_at hl 4 rfl) ?_
    obtain ⟨hi, h⟩ := h
    refine mr_iald C w 17 16 rfl rfl hi dX5_findParts_178 ?_
    refine lv_iload_n hx hb dX5_findParts_179 rfl (lv_at hl 3 rfl) ?_
    refine mr_callVI (rest := []) C w h (lw_V q907 q909 qs75 q87 q910) M_spread_d rfl rfl ⟨Nat.le_of_ble_eq_true rfl, Nat.le_of_ble_eq_true rfl⟩ rfl hl.1 rfl (Nat.le_of_ble_eq_true rfl) ⟨Nat.zero_le _, Nat.zero_le _⟩ dX5_findParts_180 (fun r2 S2 H locs h w => ?_)
    refine lv_istore_n (lv' := [(3, .int _), (0, .ref _), (1, .int _), (2, .int _), (4, .int _)]) hx hb dX5_findParts_183 rfl hl (by decide) rfl (fun ls hl => ?_)
    refine lv_iinc (v := _ + (1 : Int32)) (lv' := [(4, .int _), (3, .int _), (0, .ref _), (1, .int _), (2, .int _)]) hx hb dX5_findParts_184 hl (k := 4) rfl rfl (by decide) rfl (fun ls hl => ?_)
    refine lv_goto (tgt := 165) hx hb dX5_findParts_187 (by decide) ?_
    exact hT165 _ _ _ _ _ h _ _ _ (lv_sub hl [2, 3, 4, 1, 0] rfl) w
def M_findParts_w106 (post : Int32 → MS → Prop) (T11 : Int32 → MS → Prop) (T73 : Int32 → Int32 → MS → Prop) (T106 : Int32 → Int32 → MS → Prop) (T165 : Int32 → Int32 → Int32 → Int32 → MS → Prop) (x1 : Int32) (x2 : Int32) (S : MS) : Prop :=
  (((gF S 19) ≤ x2 → M_findParts_w209 post T11 T73 T106 T165 x1 S) ∧ (¬ (gF S 19) ≤ x2 → (((400 : Int32) < (gF S 19) → M_findParts_w209 post T11 T73 T106 T165 x1 S) ∧ (¬ (400 : Int32) < (gF S 19) → (vp_in x2 400 ∧ ((¬ (gI S 21 (x2).toNatClampNeg) = (-1 : Int32) → M_findParts_w203 post T11 T73 T106 T165 x1 x2 S) ∧ ((gI S 21 (x2).toNatClampNeg) = (-1 : Int32) → (vp_in x2 400 ∧ (fun (S1 : MS) => (vp_in x2 400 ∧ (fun (S2 : MS) => (fun (S3 : MS) => (fun (S4 : MS) => T165 x1 x2 (1 : Int32) (0 : Int32) S4) (sF S3 24 (0 : Int32))) (sI S2 23 ((0 : Int32)).toNatClampNeg x2)) (sI S1 22 (x2).toNatClampNeg (1 : Int32)))) (sI S 21 (x2).toNatClampNeg x1)))))))))
set_option maxHeartbeats 4000000 in
set_option maxRecDepth 100000 in
theorem M_findParts_a106 {p : Program} {l : Launch} {e : Env} {s : State} {m : MethodId} {args : Array Value} {below : List Frame} {meth : Method} {c : Code} {D : va_G} {dA : Nat → ClassId} {o : Nat → Nat} {A : Nat → Prop} {post : Int32 → MS → Prop} {T11 : Int32 → MS → Prop} {T73 : Int32 → Int32 → MS → Prop} {T106 : Int32 → Int32 → MS → Prop} {T165 : Int32 → Int32 → Int32 → Int32 → MS → Prop} (C : mC p m c cX5_findParts 5 s args meth (Option.some Jvm.ClassFile.FieldType.int) A) (hT11 : ∀ (x1 : Int32) (S : MS), T11 x1 S → ∀ (H : Heap) (locs : List Loc) (ls : Array Slot), lv_has ls 5 [(0, .ref (o 0)), (1, .int x1)] → mw D dA o A s S H locs → W p l e rM_findParts s m args below meth c H locs 0 0 (mQi below args s D dA o A post) (F0 m 11 ls [])) (hT73 : ∀ (x1 : Int32) (x2 : Int32) (S : MS), T73 x1 x2 S → ∀ (H : Heap) (locs : List Loc) (ls : Array Slot), lv_has ls 5 [(0, .ref (o 0)), (1, .int x1), (2, .int x2)] → mw D dA o A s S H locs → W p l e rM_findParts s m args below meth c H locs 0 0 (mQi below args s D dA o A post) (F0 m 73 ls [])) (hT106 : ∀ (x1 : Int32) (x2 : Int32) (S : MS), T106 x1 x2 S → ∀ (H : Heap) (locs : List Loc) (ls : Array Slot), lv_has ls 5 [(0, .ref (o 0)), (1, .int x1), (2, .int x2)] → mw D dA o A s S H locs → W p l e rM_findParts s m args below meth c H locs 0 0 (mQi below args s D dA o A post) (F0 m 106 ls [])) (hT165 : ∀ (x1 : Int32) (x2 : Int32) (x3 : Int32) (x4 : Int32) (S : MS), T165 x1 x2 x3 x4 S → ∀ (H : Heap) (locs : List Loc) (ls : Array Slot), lv_has ls 5 [(0, .ref (o 0)), (1, .int x1), (2, .int x2), (3, .int x3), (4, .int x4)] → mw D dA o A s S H locs → W p l e rM_findParts s m args below meth c H locs 0 0 (mQi below args s D dA o A post) (F0 m 165 ls [])) {x1 : Int32} {x2 : Int32} {S : MS} (h : M_findParts_w106 post T11 T73 T106 T165 x1 x2 S) {H : Heap} {locs : List Loc} {ls : Array Slot} (hl : lv_has ls 5 [(0, .ref (o 0)), (1, .int x1), (2, .int x2)]) (w : mw D dA o A s S H locs) : W p l e rM_findParts s m args below meth c H locs 0 0 (mQi below args s D dA o A post) (F0 m 106 ls []) := by
  unfold M_findParts_w106 at h
  obtain ⟨⟨hx, hb, hml, hown, hts⟩, hr, hlk, hA⟩ := id C
  refine lv_iload_n hx hb dX5_findParts_106 rfl (lv_at hl 2 rfl) ?_
  refine lv_aload_n hx hb dX5_findParts_107 rfl (lv_at hl 0 rfl) ?_
  refine mr_get C w 19 (by decide) q596 rfl rfl dX5_findParts_108 ?_
  obtain ⟨h1, h2⟩ := h
  refine lv_icmp_ge (tgt := 209) hx hb dX5_findParts_111 (by decide) (fun c1 => ?_) (fun c1 => ?_)
  · have h := h1 c1
    exact M_findParts_a209 C hT11 hT73 hT106 hT165 h (lv_sub hl [0, 1] rfl) w
  · have h := h2 c1
    refine lv_aload_n hx hb dX5_findParts_114 rfl (lv_at hl 0 rfl) ?_
    refine mr_get C w 19 (by decide) q596 rfl rfl dX5_findParts_115 ?_
    refine lv_sipush (v := 400) hx hb dX5_findParts_118 (by decide) ?_
    obtain ⟨h1, h2⟩ := h
    refine lv_icmp_gt (tgt := 209) hx hb dX5_findParts_121 (by decide) (fun c1 => ?_) (fun c1 => ?_)
    · have h := h1 c1
      exact M_findParts_a209 C hT11 hT73 hT106 hT165 h (lv_sub hl [0, 1] rfl) w
    · have h := h2 c1
      refine lv_aload_n hx hb dX5_findParts_124 rfl (lv_at hl 0 rfl) ?_
      refine mr_get C w 21 (by decide) q598 rfl rfl dX5_findParts_125 ?_
      refine lv_iload_n hx hb dX5_findParts_128 rfl (lv_at hl 2 rfl) ?_
      obtain ⟨hi, h⟩ := h
      refine mr_iald C w 15 14 rfl rfl hi dX5_findParts_129 ?_
      refine lv_iconst (v := -1) hx hb dX5_findParts_130 (by decide) ?_
      obtain ⟨h1, h2⟩ := h
      refine lv_icmp_ne (tgt := 203) hx hb dX5_findParts_131 (by decide) (fun c1 => ?_) (fun c1 => ?_)
      · have h := h1 c1
        exact M_findParts_a203 C hT11 hT73 hT106 hT165 h (lv_sub hl [0, 1, 2] rfl) w
      · have h := h2 c1
        refine lv_aload_n hx hb dX5_findParts_134 rfl (lv_at hl 0 rfl) ?_
        refine mr_get C w 21 (by decide) q598 rfl rfl dX5_findParts_135 ?_
        refine lv_iload_n hx hb dX5_findParts_138 rfl (lv_at hl 2 rfl) ?_
        refine lv_iload_n hx hb dX5_findParts_139 rfl (lv_at hl 1 rfl) ?_
        obtain ⟨hi, h⟩ := h
        refine mr_iast C w 15 14 rfl rfl hi MWs_21 dX5_findParts_140 (fun H locs w => ?_)
        refine lv_aload_n hx hb dX5_findParts_141 rfl (lv_at hl 0 rfl) ?_
        refine mr_get C w 22 (by decide) q599 rfl rfl dX5_findParts_142 ?_
        refine lv_iload_n hx hb dX5_findParts_145 rfl (lv_at hl 2 rfl) ?_
        refine lv_iconst (v := 1) hx hb dX5_findParts_146 (by decide) ?_
        obtain ⟨hi, h⟩ := h
        refine mr_iast C w 16 15 rfl rfl hi MWs_22 dX5_findParts_147 (fun H locs w => ?_)
        refine lv_aload_n hx hb dX5_findParts_148 rfl (lv_at hl 0 rfl) ?_
        refine mr_get C w 23 (by decide) q600 rfl rfl dX5_findParts_149 ?_
        refine lv_iconst (v := 0) hx hb dX5_findParts_152 (by decide) ?_
        refine lv_iload_n hx hb dX5_findParts_153 rfl (lv_at hl 2 rfl) ?_
        refine mr_iast C w 17 16 rfl rfl (by unfold vp_in; decide) MWs_23 dX5_findParts_154 (fun H locs w => ?_)
        refine lv_aload_n hx hb dX5_findParts_155 rfl (lv_at hl 0 rfl) ?_
        refine lv_iconst (v := 0) hx hb dX5_findParts_156 (by decide) ?_
        refine mr_put (ty := .boolean) C w 24 (by decide) q601 rfl rfl (by decide +kernel) rfl rfl MWf_24 dX5_findParts_157 (fun H locs w => ?_)
        refine lv_iconst (v := 1) hx hb dX5_findParts_160 (by decide) ?_
        refine lv_istore_n (lv' := [(3, .int _), (0, .ref _), (1, .int _), (2, .int _)]) hx hb dX5_findParts_161 rfl hl (by decide) rfl (fun ls hl => ?_)
        refine lv_iconst (v := 0) hx hb dX5_findParts_162 (by decide) ?_
        refine lv_istore (lv' := [(4, .int _), (3, .int _), (0, .ref _), (1, .int _), (2, .int _)]) hx hb dX5_findParts_163 hl (by decide) rfl (fun ls hl => ?_)
        exact hT165 _ _ _ _ _ h _ _ _ (lv_sub hl [2, 3, 4, 1, 0] rfl) w
def M_findParts_w104 (post : Int32 → MS → Prop) (T11 : Int32 → MS → Prop) (T73 : Int32 → Int32 → MS → Prop) (T106 : Int32 → Int32 → MS → Prop) (T165 : Int32 → Int32 → Int32 → Int32 → MS → Prop) (x1 : Int32) (S : MS) : Prop :=
  T106 x1 (0 : Int32) S
set_option maxHeartbeats 4000000 in
set_option maxRecDepth 100000 in
theorem M_findParts_a104 {p : Program} {l : Launch} {e : Env} {s : State} {m : MethodId} {args : Array Value} {below : List Frame} {meth : Method} {c : Code} {D : va_G} {dA : Nat → ClassId} {o : Nat → Nat} {A : Nat → Prop} {post : Int32 → MS → Prop} {T11 : Int32 → MS → Prop} {T73 : Int32 → Int32 → MS → Prop} {T106 : Int32 → Int32 → MS → Prop} {T165 : Int32 → Int32 → Int32 → Int32 → MS → Prop} (C : mC p m c cX5_findParts 5 s args meth (Option.some Jvm.ClassFile.FieldType.int) A) (hT11 : ∀ (x1 : Int32) (S : MS), T11 x1 S → ∀ (H : Heap) (locs : List Loc) (ls : Array Slot), lv_has ls 5 [(0, .ref (o 0)), (1, .int x1)] → mw D dA o A s S H locs → W p l e rM_findParts s m args below meth c H locs 0 0 (mQi below args s D dA o A post) (F0 m 11 ls [])) (hT73 : ∀ (x1 : Int32) (x2 : Int32) (S : MS), T73 x1 x2 S → ∀ (H : Heap) (locs : List Loc) (ls : Array Slot), lv_has ls 5 [(0, .ref (o 0)), (1, .int x1), (2, .int x2)] → mw D dA o A s S H locs → W p l e rM_findParts s m args below meth c H locs 0 0 (mQi below args s D dA o A post) (F0 m 73 ls [])) (hT106 : ∀ (x1 : Int32) (x2 : Int32) (S : MS), T106 x1 x2 S → ∀ (H : Heap) (locs : List Loc) (ls : Array Slot), lv_has ls 5 [(0, .ref (o 0)), (1, .int x1), (2, .int x2)] → mw D dA o A s S H locs → W p l e rM_findParts s m args below meth c H locs 0 0 (mQi below args s D dA o A post) (F0 m 106 ls [])) (hT165 : ∀ (x1 : Int32) (x2 : Int32) (x3 : Int32) (x4 : Int32) (S : MS), T165 x1 x2 x3 x4 S → ∀ (H : Heap) (locs : List Loc) (ls : Array Slot), lv_has ls 5 [(0, .ref (o 0)), (1, .int x1), (2, .int x2), (3, .int x3), (4, .int x4)] → mw D dA o A s S H locs → W p l e rM_findParts s m args below meth c H locs 0 0 (mQi below args s D dA o A post) (F0 m 165 ls [])) {x1 : Int32} {S : MS} (h : M_findParts_w104 post T11 T73 T106 T165 x1 S) {H : Heap} {locs : List Loc} {ls : Array Slot} (hl : lv_has ls 5 [(0, .ref (o 0)), (1, .int x1)]) (w : mw D dA o A s S H locs) : W p l e rM_findParts s m args below meth c H locs 0 0 (mQi below args s D dA o A post) (F0 m 104 ls []) := by
  unfold M_findParts_w104 at h
  obtain ⟨⟨hx, hb, hml, hown, hts⟩, hr, hlk, hA⟩ := id C
  refine lv_iconst (v := 0) hx hb dX5_findParts_104 (by decide) ?_
  refine lv_istore_n (lv' := [(2, .int _), (0, .ref _), (1, .int _)]) hx hb dX5_findParts_105 rfl hl (by decide) rfl (fun ls hl => ?_)
  exact hT106 _ _ _ h _ _ _ (lv_sub hl [1, 2, 0] rfl) w
def M_findParts_w73 (post : Int32 → MS → Prop) (T11 : Int32 → MS → Prop) (T73 : Int32 → Int32 → MS → Prop) (T106 : Int32 → Int32 → MS → Prop) (T165 : Int32 → Int32 → Int32 → Int32 → MS → Prop) (x1 : Int32) (x2 : Int32) (S : MS) : Prop :=
  (((gF S 19) ≤ x2 → M_findParts_w104 post T11 T73 T106 T165 x1 S) ∧ (¬ (gF S 19) ≤ x2 → (((400 : Int32) < (gF S 19) → M_findParts_w104 post T11 T73 T106 T165 x1 S) ∧ (¬ (400 : Int32) < (gF S 19) → (vp_in x2 400 ∧ (fun (S1 : MS) => T73 x1 (x2 + (1 : Int32)) S1) (sI S 21 (x2).toNatClampNeg (-1 : Int32)))))))
set_option maxHeartbeats 4000000 in
set_option maxRecDepth 100000 in
theorem M_findParts_a73 {p : Program} {l : Launch} {e : Env} {s : State} {m : MethodId} {args : Array Value} {below : List Frame} {meth : Method} {c : Code} {D : va_G} {dA : Nat → ClassId} {o : Nat → Nat} {A : Nat → Prop} {post : Int32 → MS → Prop} {T11 : Int32 → MS → Prop} {T73 : Int32 → Int32 → MS → Prop} {T106 : Int32 → Int32 → MS → Prop} {T165 : Int32 → Int32 → Int32 → Int32 → MS → Prop} (C : mC p m c cX5_findParts 5 s args meth (Option.some Jvm.ClassFile.FieldType.int) A) (hT11 : ∀ (x1 : Int32) (S : MS), T11 x1 S → ∀ (H : Heap) (locs : List Loc) (ls : Array Slot), lv_has ls 5 [(0, .ref (o 0)), (1, .int x1)] → mw D dA o A s S H locs → W p l e rM_findParts s m args below meth c H locs 0 0 (mQi below args s D dA o A post) (F0 m 11 ls [])) (hT73 : ∀ (x1 : Int32) (x2 : Int32) (S : MS), T73 x1 x2 S → ∀ (H : Heap) (locs : List Loc) (ls : Array Slot), lv_has ls 5 [(0, .ref (o 0)), (1, .int x1), (2, .int x2)] → mw D dA o A s S H locs → W p l e rM_findParts s m args below meth c H locs 0 0 (mQi below args s D dA o A post) (F0 m 73 ls [])) (hT106 : ∀ (x1 : Int32) (x2 : Int32) (S : MS), T106 x1 x2 S → ∀ (H : Heap) (locs : List Loc) (ls : Array Slot), lv_has ls 5 [(0, .ref (o 0)), (1, .int x1), (2, .int x2)] → mw D dA o A s S H locs → W p l e rM_findParts s m args below meth c H locs 0 0 (mQi below args s D dA o A post) (F0 m 106 ls [])) (hT165 : ∀ (x1 : Int32) (x2 : Int32) (x3 : Int32) (x4 : Int32) (S : MS), T165 x1 x2 x3 x4 S → ∀ (H : Heap) (locs : List Loc) (ls : Array Slot), lv_has ls 5 [(0, .ref (o 0)), (1, .int x1), (2, .int x2), (3, .int x3), (4, .int x4)] → mw D dA o A s S H locs → W p l e rM_findParts s m args below meth c H locs 0 0 (mQi below args s D dA o A post) (F0 m 165 ls [])) {x1 : Int32} {x2 : Int32} {S : MS} (h : M_findParts_w73 post T11 T73 T106 T165 x1 x2 S) {H : Heap} {locs : List Loc} {ls : Array Slot} (hl : lv_has ls 5 [(0, .ref (o 0)), (1, .int x1), (2, .int x2)]) (w : mw D dA o A s S H locs) : W p l e rM_findParts s m args below meth c H locs 0 0 (mQi below args s D dA o A post) (F0 m 73 ls []) := by
  unfold M_findParts_w73 at h
  obtain ⟨⟨hx, hb, hml, hown, hts⟩, hr, hlk, hA⟩ := id C
  refine lv_iload_n hx hb dX5_findParts_73 rfl (lv_at hl 2 rfl) ?_
  refine lv_aload_n hx hb dX5_findParts_74 rfl (lv_at hl 0 rfl) ?_
  refine mr_get C w 19 (by decide) q596 rfl rfl dX5_findParts_75 ?_
  obtain ⟨h1, h2⟩ := h
  refine lv_icmp_ge (tgt := 104) hx hb dX5_findParts_78 (by decide) (fun c1 => ?_) (fun c1 => ?_)
  · have h := h1 c1
    exact M_findParts_a104 C hT11 hT73 hT106 hT165 h (lv_sub hl [0, 1] rfl) w
  · have h := h2 c1
    refine lv_aload_n hx hb dX5_findParts_81 rfl (lv_at hl 0 rfl) ?_
    refine mr_get C w 19 (by decide) q596 rfl rfl dX5_findParts_82 ?_
    refine lv_sipush (v := 400) hx hb dX5_findParts_85 (by decide) ?_
    obtain ⟨h1, h2⟩ := h
    refine lv_icmp_gt (tgt := 104) hx hb dX5_findParts_88 (by decide) (fun c1 => ?_) (fun c1 => ?_)
    · have h := h1 c1
      exact M_findParts_a104 C hT11 hT73 hT106 hT165 h (lv_sub hl [0, 1] rfl) w
    · have h := h2 c1
      refine lv_aload_n hx hb dX5_findParts_91 rfl (lv_at hl 0 rfl) ?_
      refine mr_get C w 21 (by decide) q598 rfl rfl dX5_findParts_92 ?_
      refine lv_iload_n hx hb dX5_findParts_95 rfl (lv_at hl 2 rfl) ?_
      refine lv_iconst (v := -1) hx hb dX5_findParts_96 (by decide) ?_
      obtain ⟨hi, h⟩ := h
      refine mr_iast C w 15 14 rfl rfl hi MWs_21 dX5_findParts_97 (fun H locs w => ?_)
      refine lv_iinc (v := _ + (1 : Int32)) (lv' := [(2, .int _), (0, .ref _), (1, .int _)]) hx hb dX5_findParts_98 hl (k := 2) rfl rfl (by decide) rfl (fun ls hl => ?_)
      refine lv_goto (tgt := 73) hx hb dX5_findParts_101 (by decide) ?_
      exact hT73 _ _ _ h _ _ _ (lv_sub hl [1, 2, 0] rfl) w
def M_findParts_w11 (post : Int32 → MS → Prop) (T11 : Int32 → MS → Prop) (T73 : Int32 → Int32 → MS → Prop) (T106 : Int32 → Int32 → MS → Prop) (T165 : Int32 → Int32 → Int32 → Int32 → MS → Prop) (x1 : Int32) (S : MS) : Prop :=
  ((((7 : Int32) * (gF S 0)) ≤ x1 → (vp_in ((7 : Int32) * (gF S 0)) 22 ∧ (fun (S1 : MS) => T73 (0 : Int32) (0 : Int32) S1) (sI S 20 (((7 : Int32) * (gF S 0))).toNatClampNeg (gF S 19)))) ∧ (¬ ((7 : Int32) * (gF S 0)) ≤ x1 → (vp_in x1 22 ∧ (fun (S2 : MS) => (vp_in x1 21 ∧ (fun (S3 : MS) => T11 (x1 + (1 : Int32)) S3) (sF S2 19 ((gF S2 19) + (gI S2 3 (x1).toNatClampNeg))))) (sI S 20 (x1).toNatClampNeg (gF S 19)))))
set_option maxHeartbeats 4000000 in
set_option maxRecDepth 100000 in
theorem M_findParts_a11 {p : Program} {l : Launch} {e : Env} {s : State} {m : MethodId} {args : Array Value} {below : List Frame} {meth : Method} {c : Code} {D : va_G} {dA : Nat → ClassId} {o : Nat → Nat} {A : Nat → Prop} {post : Int32 → MS → Prop} {T11 : Int32 → MS → Prop} {T73 : Int32 → Int32 → MS → Prop} {T106 : Int32 → Int32 → MS → Prop} {T165 : Int32 → Int32 → Int32 → Int32 → MS → Prop} (C : mC p m c cX5_findParts 5 s args meth (Option.some Jvm.ClassFile.FieldType.int) A) (hT11 : ∀ (x1 : Int32) (S : MS), T11 x1 S → ∀ (H : Heap) (locs : List Loc) (ls : Array Slot), lv_has ls 5 [(0, .ref (o 0)), (1, .int x1)] → mw D dA o A s S H locs → W p l e rM_findParts s m args below meth c H locs 0 0 (mQi below args s D dA o A post) (F0 m 11 ls [])) (hT73 : ∀ (x1 : Int32) (x2 : Int32) (S : MS), T73 x1 x2 S → ∀ (H : Heap) (locs : List Loc) (ls : Array Slot), lv_has ls 5 [(0, .ref (o 0)), (1, .int x1), (2, .int x2)] → mw D dA o A s S H locs → W p l e rM_findParts s m args below meth c H locs 0 0 (mQi below args s D dA o A post) (F0 m 73 ls [])) (hT106 : ∀ (x1 : Int32) (x2 : Int32) (S : MS), T106 x1 x2 S → ∀ (H : Heap) (locs : List Loc) (ls : Array Slot), lv_has ls 5 [(0, .ref (o 0)), (1, .int x1), (2, .int x2)] → mw D dA o A s S H locs → W p l e rM_findParts s m args below meth c H locs 0 0 (mQi below args s D dA o A post) (F0 m 106 ls [])) (hT165 : ∀ (x1 : Int32) (x2 : Int32) (x3 : Int32) (x4 : Int32) (S : MS), T165 x1 x2 x3 x4 S → ∀ (H : Heap) (locs : List Loc) (ls : Array Slot), lv_has ls 5 [(0, .ref (o 0)), (1, .int x1), (2, .int x2), (3, .int x3), (4, .int x4)] → mw D dA o A s S H locs → W p l e rM_findParts s m args below meth c H locs 0 0 (mQi below args s D dA o A post) (F0 m 165 ls [])) {x1 : Int32} {S : MS} (h : M_findParts_w11 post T11 T73 T106 T165 x1 S) {H : Heap} {locs : List Loc} {ls : Array Slot} (hl : lv_has ls 5 [(0, .ref (o 0)), (1, .int x1)]) (w : mw D dA o A s S H locs) : W p l e rM_findParts s m args below meth c H locs 0 0 (mQi below args s D dA o A post) (F0 m 11 ls []) := by
  unfold M_findParts_w11 at h
  obtain ⟨⟨hx, hb, hml, hown, hts⟩, hr, hlk, hA⟩ := id C
  refine lv_iload_n hx hb dX5_findParts_11 rfl (lv_at hl 1 rfl) ?_
  refine lv_bipush (v := 7) hx hb dX5_findParts_12 (by decide) ?_
  refine lv_aload_n hx hb dX5_findParts_14 rfl (lv_at hl 0 rfl) ?_
  refine mr_get C w 0 (by decide) q577 rfl rfl dX5_findParts_15 ?_
  refine lv_imul hx hb dX5_findParts_18 ?_
  obtain ⟨h1, h2⟩ := h
  refine lv_icmp_ge (tgt := 53) hx hb dX5_findParts_19 (by decide) (fun c1 => ?_) (fun c1 => ?_)
  · have h := h1 c1
    refine lv_aload_n hx hb dX5_findParts_53 rfl (lv_at hl 0 rfl) ?_
    refine mr_get C w 20 (by decide) q597 rfl rfl dX5_findParts_54 ?_
    refine lv_bipush (v := 7) hx hb dX5_findParts_57 (by decide) ?_
    refine lv_aload_n hx hb dX5_findParts_59 rfl (lv_at hl 0 rfl) ?_
    refine mr_get C w 0 (by decide) q577 rfl rfl dX5_findParts_60 ?_
    refine lv_imul hx hb dX5_findParts_63 ?_
    refine lv_aload_n hx hb dX5_findParts_64 rfl (lv_at hl 0 rfl) ?_
    refine mr_get C w 19 (by decide) q596 rfl rfl dX5_findParts_65 ?_
    obtain ⟨hi, h⟩ := h
    refine mr_iast C w 14 13 rfl rfl hi MWs_20 dX5_findParts_68 (fun H locs w => ?_)
    refine lv_iconst (v := 0) hx hb dX5_findParts_69 (by decide) ?_
    refine lv_istore_n (lv' := [(1, .int _), (0, .ref _)]) hx hb dX5_findParts_70 rfl hl (by decide) rfl (fun ls hl => ?_)
    refine lv_iconst (v := 0) hx hb dX5_findParts_71 (by decide) ?_
    refine lv_istore_n (lv' := [(2, .int _), (1, .int _), (0, .ref _)]) hx hb dX5_findParts_72 rfl hl (by decide) rfl (fun ls hl => ?_)
    exact hT73 _ _ _ h _ _ _ (lv_sub hl [2, 1, 0] rfl) w
  · have h := h2 c1
    refine lv_aload_n hx hb dX5_findParts_22 rfl (lv_at hl 0 rfl) ?_
    refine mr_get C w 20 (by decide) q597 rfl rfl dX5_findParts_23 ?_
    refine lv_iload_n hx hb dX5_findParts_26 rfl (lv_at hl 1 rfl) ?_
    refine lv_aload_n hx hb dX5_findParts_27 rfl (lv_at hl 0 rfl) ?_
    refine mr_get C w 19 (by decide) q596 rfl rfl dX5_findParts_28 ?_
    obtain ⟨hi, h⟩ := h
    refine mr_iast C w 14 13 rfl rfl hi MWs_20 dX5_findParts_31 (fun H locs w => ?_)
    refine lv_aload_n hx hb dX5_findParts_32 rfl (lv_at hl 0 rfl) ?_
    refine lv_dup hx hb dX5_findParts_33 rfl ?_
    refine mr_get C w 19 (by decide) q596 rfl rfl dX5_findParts_34 ?_
    refine lv_aload_n hx hb dX5_findParts_37 rfl (lv_at hl 0 rfl) ?_
    refine mr_get C w 3 (by decide) q580 rfl rfl dX5_findParts_38 ?_
    refine lv_iload_n hx hb dX5_findParts_41 rfl (lv_at hl 1 rfl) ?_
    obtain ⟨hi, h⟩ := h
    refine mr_iald C w 3 2 rfl rfl hi dX5_findParts_42 ?_
    refine lv_iadd hx hb dX5_findParts_43 ?_
    refine mr_put (ty := .int) C w 19 (by decide) q596 rfl rfl (by decide +kernel) rfl rfl MWf_19 dX5_findParts_44 (fun H locs w => ?_)
    refine lv_iinc (v := _ + (1 : Int32)) (lv' := [(1, .int _), (0, .ref _)]) hx hb dX5_findParts_47 hl (k := 1) rfl rfl (by decide) rfl (fun ls hl => ?_)
    refine lv_goto (tgt := 11) hx hb dX5_findParts_50 (by decide) ?_
    exact hT11 _ _ h _ _ _ (lv_sub hl [1, 0] rfl) w
def M_findParts_w0 (post : Int32 → MS → Prop) (T11 : Int32 → MS → Prop) (T73 : Int32 → Int32 → MS → Prop) (T106 : Int32 → Int32 → MS → Prop) (T165 : Int32 → Int32 → Int32 → Int32 → MS → Prop) (S : MS) : Prop :=
  M_label S (fun (S1 : MS) => (fun (S2 : MS) => T11 (0 : Int32) S2) (sF S1 19 (0 : Int32)))
set_option maxHeartbeats 4000000 in
set_option maxRecDepth 100000 in
theorem M_findParts_a0 {p : Program} {l : Launch} {e : Env} {s : State} {m : MethodId} {args : Array Value} {below : List Frame} {meth : Method} {c : Code} {D : va_G} {dA : Nat → ClassId} {o : Nat → Nat} {A : Nat → Prop} {post : Int32 → MS → Prop} {T11 : Int32 → MS → Prop} {T73 : Int32 → Int32 → MS → Prop} {T106 : Int32 → Int32 → MS → Prop} {T165 : Int32 → Int32 → Int32 → Int32 → MS → Prop} (C : mC p m c cX5_findParts 5 s args meth (Option.some Jvm.ClassFile.FieldType.int) A) (hT11 : ∀ (x1 : Int32) (S : MS), T11 x1 S → ∀ (H : Heap) (locs : List Loc) (ls : Array Slot), lv_has ls 5 [(0, .ref (o 0)), (1, .int x1)] → mw D dA o A s S H locs → W p l e rM_findParts s m args below meth c H locs 0 0 (mQi below args s D dA o A post) (F0 m 11 ls [])) (hT73 : ∀ (x1 : Int32) (x2 : Int32) (S : MS), T73 x1 x2 S → ∀ (H : Heap) (locs : List Loc) (ls : Array Slot), lv_has ls 5 [(0, .ref (o 0)), (1, .int x1), (2, .int x2)] → mw D dA o A s S H locs → W p l e rM_findParts s m args below meth c H locs 0 0 (mQi below args s D dA o A post) (F0 m 73 ls [])) (hT106 : ∀ (x1 : Int32) (x2 : Int32) (S : MS), T106 x1 x2 S → ∀ (H : Heap) (locs : List Loc) (ls : Array Slot), lv_has ls 5 [(0, .ref (o 0)), (1, .int x1), (2, .int x2)] → mw D dA o A s S H locs → W p l e rM_findParts s m args below meth c H locs 0 0 (mQi below args s D dA o A post) (F0 m 106 ls [])) (hT165 : ∀ (x1 : Int32) (x2 : Int32) (x3 : Int32) (x4 : Int32) (S : MS), T165 x1 x2 x3 x4 S → ∀ (H : Heap) (locs : List Loc) (ls : Array Slot), lv_has ls 5 [(0, .ref (o 0)), (1, .int x1), (2, .int x2), (3, .int x3), (4, .int x4)] → mw D dA o A s S H locs → W p l e rM_findParts s m args below meth c H locs 0 0 (mQi below args s D dA o A post) (F0 m 165 ls [])) {S : MS} (h : M_findParts_w0 post T11 T73 T106 T165 S) {H : Heap} {locs : List Loc} {ls : Array Slot} (hl : lv_has ls 5 [(0, .ref (o 0))]) (w : mw D dA o A s S H locs) : W p l e rM_findParts s m args below meth c H locs 0 0 (mQi below args s D dA o A post) (F0 m 0 ls []) := by
  unfold M_findParts_w0 at h
  obtain ⟨⟨hx, hb, hml, hown, hts⟩, hr, hlk, hA⟩ := id C
  refine lv_aload_n hx hb dX5_findParts_0 rfl (lv_at hl 0 rfl) ?_
  refine mr_callVV (rest := []) C w h (lw_V q695 q697 qs37 q87 q698) M_label_d rfl rfl ⟨Nat.le_of_ble_eq_true rfl, Nat.le_of_ble_eq_true rfl⟩ rfl hl.1 rfl (Nat.le_of_ble_eq_true rfl) ⟨Nat.zero_le _, Nat.zero_le _⟩ dX5_findParts_1 (fun S1 H locs h w => ?_)
  refine lv_aload_n hx hb dX5_findParts_4 rfl (lv_at hl 0 rfl) ?_
  refine lv_iconst (v := 0) hx hb dX5_findParts_5 (by decide) ?_
  refine mr_put (ty := .int) C w 19 (by decide) q596 rfl rfl (by decide +kernel) rfl rfl MWf_19 dX5_findParts_6 (fun H locs w => ?_)
  refine lv_iconst (v := 0) hx hb dX5_findParts_9 (by decide) ?_
  refine lv_istore_n (lv' := [(1, .int _), (0, .ref _)]) hx hb dX5_findParts_10 rfl hl (by decide) rfl (fun ls hl => ?_)
  exact hT11 _ _ h _ _ _ (lv_sub hl [1, 0] rfl) w
def M_findParts_VC (S : MS) (post : Int32 → MS → Prop) : Prop := ∀ (T11 : Int32 → MS → Prop) (T73 : Int32 → Int32 → MS → Prop) (T106 : Int32 → Int32 → MS → Prop) (T165 : Int32 → Int32 → Int32 → Int32 → MS → Prop), (∀ (x1 : Int32) (S : MS), M_findParts_w11 post T11 T73 T106 T165 x1 S → T11 x1 S) → (∀ (x1 : Int32) (x2 : Int32) (S : MS), M_findParts_w73 post T11 T73 T106 T165 x1 x2 S → T73 x1 x2 S) → (∀ (x1 : Int32) (x2 : Int32) (S : MS), M_findParts_w106 post T11 T73 T106 T165 x1 x2 S → T106 x1 x2 S) → (∀ (x1 : Int32) (x2 : Int32) (x3 : Int32) (x4 : Int32) (S : MS), M_findParts_w165 post T11 T73 T106 T165 x1 x2 x3 x4 S → T165 x1 x2 x3 x4 S) → M_findParts_w0 post T11 T73 T106 T165 S
theorem M_findParts_ok {S : MS} {post : Int32 → MS → Prop} (h : M_findParts_VC S post) : M_findParts S post := by
  intro l D dA o sz
  refine mr_start (fun A => va_Qi post (mB D dA o A) A) rfl (Nat.le_of_ble_eq_true rfl) (by decide) ?_
  intro p e s m args below meth c ls A C w hl
  have hl : lv_has ls 5 [(0, .ref (o 0))] := hl
  have h := h (fun (x1 : Int32) S => ∀ (H : Heap) (locs : List Loc) (ls : Array Slot), lv_has ls 5 [(0, .ref (o 0)), (1, .int x1)] → mw D dA o A s S H locs → W p l e rM_findParts s m args below meth c H locs 0 0 (mQi below args s D dA o A post) (F0 m 11 ls [])) (fun (x1 : Int32) (x2 : Int32) S => ∀ (H : Heap) (locs : List Loc) (ls : Array Slot), lv_has ls 5 [(0, .ref (o 0)), (1, .int x1), (2, .int x2)] → mw D dA o A s S H locs → W p l e rM_findParts s m args below meth c H locs 0 0 (mQi below args s D dA o A post) (F0 m 73 ls [])) (fun (x1 : Int32) (x2 : Int32) S => ∀ (H : Heap) (locs : List Loc) (ls : Array Slot), lv_has ls 5 [(0, .ref (o 0)), (1, .int x1), (2, .int x2)] → mw D dA o A s S H locs → W p l e rM_findParts s m args below meth c H locs 0 0 (mQi below args s D dA o A post) (F0 m 106 ls [])) (fun (x1 : Int32) (x2 : Int32) (x3 : Int32) (x4 : Int32) S => ∀ (H : Heap) (locs : List Loc) (ls : Array Slot), lv_has ls 5 [(0, .ref (o 0)), (1, .int x1), (2, .int x2), (3, .int x3), (4, .int x4)] → mw D dA o A s S H locs → W p l e rM_findParts s m args below meth c H locs 0 0 (mQi below args s D dA o A post) (F0 m 165 ls [])) (fun _ S h H locs ls hl w => M_findParts_a11 C (fun _ _ h => h) (fun _ _ _ h => h) (fun _ _ _ h => h) (fun _ _ _ _ _ h => h) h hl w) (fun _ _ S h H locs ls hl w => M_findParts_a73 C (fun _ _ h => h) (fun _ _ _ h => h) (fun _ _ _ h => h) (fun _ _ _ _ _ h => h) h hl w) (fun _ _ S h H locs ls hl w => M_findParts_a106 C (fun _ _ h => h) (fun _ _ _ h => h) (fun _ _ _ h => h) (fun _ _ _ _ _ h => h) h hl w) (fun _ _ _ _ S h H locs ls hl w => M_findParts_a165 C (fun _ _ h => h) (fun _ _ _ h => h) (fun _ _ _ h => h) (fun _ _ _ _ _ h => h) h hl w)
  exact M_findParts_a0 C (fun _ _ h => h) (fun _ _ _ h => h) (fun _ _ _ h => h) (fun _ _ _ _ _ h => h) h (lv_sub hl [0] rfl) w
