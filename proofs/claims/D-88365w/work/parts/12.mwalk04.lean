/-! link(I)I -/
def M_link_w25 (post : Int32 → MS → Prop) (v0 : Int32) (S : MS) : Prop :=
  post v0 S
set_option maxHeartbeats 4000000 in
set_option maxRecDepth 100000 in
theorem M_link_a25 {p : Program} {l : Launch} {e : Env} {s : State} {m : MethodId} {args : Array Value} {below : List Frame} {meth : Method} {c : Code} {D : va_G} {dA : Nat → ClassId} {o : Nat → Nat} {A : Nat → Prop} {post : Int32 → MS → Prop} (C : mC p m c cX5_link 3 s args meth (Option.some Jvm.ClassFile.FieldType.int) A) {v0 : Int32} {S : MS} (h : M_link_w25 post v0 S) {H : Heap} {locs : List Loc} {ls : Array Slot} (hl : lv_has ls 3 [(0, .ref (o 0))]) (w : mw D dA o A s S H locs) : W p l e rM_link s m args below meth c H locs 0 0 (mQi below args s D dA o A post) (F0 m 25 ls [.int v0]) := by
  unfold M_link_w25 at h
  obtain ⟨⟨hx, hb, hml, hown, hts⟩, hr, hlk, hA⟩ := id C
  exact mr_iret C w h dX5_link_25
def M_link_w0 (post : Int32 → MS → Prop) (x1 : Int32) (S : MS) : Prop :=
  M_label S (fun (S1 : MS) => M_cornerOfClass x1 S1 (fun (r2 : Int32) (S2 : MS) => ((¬ r2 = (-1 : Int32) → M_linkOf r2 S2 (fun (r3 : Int32) (S3 : MS) => M_link_w25 post r3 S3)) ∧ (r2 = (-1 : Int32) → M_link_w25 post (-2147483648 : Int32) S2))))
set_option maxHeartbeats 4000000 in
set_option maxRecDepth 100000 in
theorem M_link_a0 {p : Program} {l : Launch} {e : Env} {s : State} {m : MethodId} {args : Array Value} {below : List Frame} {meth : Method} {c : Code} {D : va_G} {dA : Nat → ClassId} {o : Nat → Nat} {A : Nat → Prop} {post : Int32 → MS → Prop} (C : mC p m c cX5_link 3 s args meth (Option.some Jvm.ClassFile.FieldType.int) A) {x1 : Int32} {S : MS} (h : M_link_w0 post x1 S) {H : Heap} {locs : List Loc} {ls : Array Slot} (hl : lv_has ls 3 [(0, .ref (o 0)), (1, .int x1)]) (w : mw D dA o A s S H locs) : W p l e rM_link s m args below meth c H locs 0 0 (mQi below args s D dA o A post) (F0 m 0 ls []) := by
  unfold M_link_w0 at h
  obtain ⟨⟨hx, hb, hml, hown, hts⟩, hr, hlk, hA⟩ := id C
  refine lv_aload_n hx hb dX5_link_0 rfl (lv_at hl 0 rfl) ?_
  refine mr_callVV (rest := []) C w h (lw_V q695 q697 qs37 q87 q698) M_label_d rfl rfl ⟨Nat.le_of_ble_eq_true rfl, Nat.le_of_ble_eq_true rfl⟩ rfl hl.1 rfl (Nat.le_of_ble_eq_true rfl) ⟨Nat.zero_le _, Nat.zero_le _⟩ dX5_link_1 (fun S1 H locs h w => ?_)
  refine lv_aload_n hx hb dX5_link_4 rfl (lv_at hl 0 rfl) ?_
  refine lv_iload_n hx hb dX5_link_5 rfl (lv_at hl 1 rfl) ?_
  refine mr_callVI (rest := []) C w h (lw_V q742 q744 qs46 q87 q745) M_cornerOfClass_d rfl rfl ⟨Nat.le_of_ble_eq_true rfl, Nat.le_of_ble_eq_true rfl⟩ rfl hl.1 rfl (Nat.le_of_ble_eq_true rfl) ⟨Nat.zero_le _, Nat.zero_le _⟩ dX5_link_6 (fun r2 S2 H locs h w => ?_)
  refine lv_istore_n (lv' := [(2, .int _), (0, .ref _), (1, .int _)]) hx hb dX5_link_9 rfl hl (by decide) rfl (fun ls hl => ?_)
  refine lv_iload_n hx hb dX5_link_10 rfl (lv_at hl 0 rfl) ?_
  refine lv_iconst (v := -1) hx hb dX5_link_11 (by decide) ?_
  obtain ⟨h1, h2⟩ := h
  refine lv_icmp_ne (tgt := 20) hx hb dX5_link_12 (by decide) (fun c1 => ?_) (fun c1 => ?_)
  · have h := h1 c1
    refine lv_aload_n hx hb dX5_link_20 rfl (lv_at hl 1 rfl) ?_
    refine lv_iload_n hx hb dX5_link_21 rfl (lv_at hl 0 rfl) ?_
    refine mr_callVI (rest := []) C w h (lw_V q747 q749 qs47 q87 q750) M_linkOf_d rfl rfl ⟨Nat.le_of_ble_eq_true rfl, Nat.le_of_ble_eq_true rfl⟩ rfl hl.1 rfl (Nat.le_of_ble_eq_true rfl) ⟨Nat.zero_le _, Nat.zero_le _⟩ dX5_link_22 (fun r3 S3 H locs h w => ?_)
    exact M_link_a25 C h (lv_sub hl [1] rfl) w
  · have h := h2 c1
    refine lv_ldc hx hb hown (hts _ q746) dX5_link_15 ?_
    refine lv_goto (tgt := 25) hx hb dX5_link_17 (by decide) ?_
    exact M_link_a25 C h (lv_sub hl [1] rfl) w
def M_link_VC (x1 : Int32) (S : MS) (post : Int32 → MS → Prop) : Prop := M_link_w0 post x1 S
theorem M_link_ok {x1 : Int32} {S : MS} {post : Int32 → MS → Prop} (h : M_link_VC x1 S post) : M_link x1 S post := by
  intro l D dA o sz
  refine mr_start (fun A => va_Qi post (mB D dA o A) A) rfl (Nat.le_of_ble_eq_true rfl) (by decide) ?_
  intro p e s m args below meth c ls A C w hl
  have hl : lv_has ls 3 [(0, .ref (o 0)), (1, .int x1)] := hl
  exact M_link_a0 C h (lv_sub hl [0, 1] rfl) w

/-! sides(Z)I -/
def M_sides_w44 (post : Int32 → MS → Prop) (T4 : Int32 → Int32 → Int32 → MS → Prop) (v0 : Int32) (v1 : Int32) (x1 : Int32) (x3 : Int32) (S : MS) : Prop :=
  T4 x1 (v1 + v0) (x3 + (1 : Int32)) S
set_option maxHeartbeats 4000000 in
set_option maxRecDepth 100000 in
theorem M_sides_a44 {p : Program} {l : Launch} {e : Env} {s : State} {m : MethodId} {args : Array Value} {below : List Frame} {meth : Method} {c : Code} {D : va_G} {dA : Nat → ClassId} {o : Nat → Nat} {A : Nat → Prop} {post : Int32 → MS → Prop} {T4 : Int32 → Int32 → Int32 → MS → Prop} (C : mC p m c cX5_sides 4 s args meth (Option.some Jvm.ClassFile.FieldType.int) A) (hT4 : ∀ (x1 : Int32) (x2 : Int32) (x3 : Int32) (S : MS), T4 x1 x2 x3 S → ∀ (H : Heap) (locs : List Loc) (ls : Array Slot), lv_has ls 4 [(0, .ref (o 0)), (1, .int x1), (2, .int x2), (3, .int x3)] → mw D dA o A s S H locs → W p l e rM_sides s m args below meth c H locs 0 0 (mQi below args s D dA o A post) (F0 m 4 ls [])) {v0 : Int32} {v1 : Int32} {x1 : Int32} {x3 : Int32} {S : MS} (h : M_sides_w44 post T4 v0 v1 x1 x3 S) {H : Heap} {locs : List Loc} {ls : Array Slot} (hl : lv_has ls 4 [(0, .ref (o 0)), (1, .int x1), (3, .int x3)]) (w : mw D dA o A s S H locs) : W p l e rM_sides s m args below meth c H locs 0 0 (mQi below args s D dA o A post) (F0 m 44 ls [.int v0, .int v1]) := by
  unfold M_sides_w44 at h
  obtain ⟨⟨hx, hb, hml, hown, hts⟩, hr, hlk, hA⟩ := id C
  refine lv_iadd hx hb dX5_sides_44 ?_
  refine lv_istore_n (lv' := [(2, .int _), (0, .ref _), (1, .int _), (3, .int _)]) hx hb dX5_sides_45 rfl hl (by decide) rfl (fun ls hl => ?_)
  refine lv_iinc (v := _ + (1 : Int32)) (lv' := [(3, .int _), (2, .int _), (0, .ref _), (1, .int _)]) hx hb dX5_sides_46 hl (k := 3) rfl rfl (by decide) rfl (fun ls hl => ?_)
  refine lv_goto (tgt := 4) hx hb dX5_sides_49 (by decide) ?_
  exact hT4 _ _ _ _ h _ _ _ (lv_sub hl [2, 3, 1, 0] rfl) w
def M_sides_w43 (post : Int32 → MS → Prop) (T4 : Int32 → Int32 → Int32 → MS → Prop) (v0 : Int32) (x1 : Int32) (x3 : Int32) (S : MS) : Prop :=
  M_sides_w44 post T4 (0 : Int32) v0 x1 x3 S
set_option maxHeartbeats 4000000 in
set_option maxRecDepth 100000 in
theorem M_sides_a43 {p : Program} {l : Launch} {e : Env} {s : State} {m : MethodId} {args : Array Value} {below : List Frame} {meth : Method} {c : Code} {D : va_G} {dA : Nat → ClassId} {o : Nat → Nat} {A : Nat → Prop} {post : Int32 → MS → Prop} {T4 : Int32 → Int32 → Int32 → MS → Prop} (C : mC p m c cX5_sides 4 s args meth (Option.some Jvm.ClassFile.FieldType.int) A) (hT4 : ∀ (x1 : Int32) (x2 : Int32) (x3 : Int32) (S : MS), T4 x1 x2 x3 S → ∀ (H : Heap) (locs : List Loc) (ls : Array Slot), lv_has ls 4 [(0, .ref (o 0)), (1, .int x1), (2, .int x2), (3, .int x3)] → mw D dA o A s S H locs → W p l e rM_sides s m args below meth c H locs 0 0 (mQi below args s D dA o A post) (F0 m 4 ls [])) {v0 : Int32} {x1 : Int32} {x3 : Int32} {S : MS} (h : M_sides_w43 post T4 v0 x1 x3 S) {H : Heap} {locs : List Loc} {ls : Array Slot} (hl : lv_has ls 4 [(0, .ref (o 0)), (1, .int x1), (3, .int x3)]) (w : mw D dA o A s S H locs) : W p l e rM_sides s m args below meth c H locs 0 0 (mQi below args s D dA o A post) (F0 m 43 ls [.int v0]) := by
  unfold M_sides_w43 at h
  obtain ⟨⟨hx, hb, hml, hown, hts⟩, hr, hlk, hA⟩ := id C
  refine lv_iconst (v := 0) hx hb dX5_sides_43 (by decide) ?_
  exact M_sides_a44 C hT4 h (lv_sub hl [0, 1, 2] rfl) w
def M_sides_w39 (post : Int32 → MS → Prop) (T4 : Int32 → Int32 → Int32 → MS → Prop) (v0 : Int32) (x1 : Int32) (x3 : Int32) (S : MS) : Prop :=
  M_sides_w44 post T4 (1 : Int32) v0 x1 x3 S
set_option maxHeartbeats 4000000 in
set_option maxRecDepth 100000 in
theorem M_sides_a39 {p : Program} {l : Launch} {e : Env} {s : State} {m : MethodId} {args : Array Value} {below : List Frame} {meth : Method} {c : Code} {D : va_G} {dA : Nat → ClassId} {o : Nat → Nat} {A : Nat → Prop} {post : Int32 → MS → Prop} {T4 : Int32 → Int32 → Int32 → MS → Prop} (C : mC p m c cX5_sides 4 s args meth (Option.some Jvm.ClassFile.FieldType.int) A) (hT4 : ∀ (x1 : Int32) (x2 : Int32) (x3 : Int32) (S : MS), T4 x1 x2 x3 S → ∀ (H : Heap) (locs : List Loc) (ls : Array Slot), lv_has ls 4 [(0, .ref (o 0)), (1, .int x1), (2, .int x2), (3, .int x3)] → mw D dA o A s S H locs → W p l e rM_sides s m args below meth c H locs 0 0 (mQi below args s D dA o A post) (F0 m 4 ls [])) {v0 : Int32} {x1 : Int32} {x3 : Int32} {S : MS} (h : M_sides_w39 post T4 v0 x1 x3 S) {H : Heap} {locs : List Loc} {ls : Array Slot} (hl : lv_has ls 4 [(0, .ref (o 0)), (1, .int x1), (3, .int x3)]) (w : mw D dA o A s S H locs) : W p l e rM_sides s m args below meth c H locs 0 0 (mQi below args s D dA o A post) (F0 m 39 ls [.int v0]) := by
  unfold M_sides_w39 at h
  obtain ⟨⟨hx, hb, hml, hown, hts⟩, hr, hlk, hA⟩ := id C
  refine lv_iconst (v := 1) hx hb dX5_sides_39 (by decide) ?_
  refine lv_goto (tgt := 44) hx hb dX5_sides_40 (by decide) ?_
  exact M_sides_a44 C hT4 h (lv_sub hl [0, 1, 2] rfl) w
def M_sides_w4 (post : Int32 → MS → Prop) (T4 : Int32 → Int32 → Int32 → MS → Prop) (x1 : Int32) (x2 : Int32) (x3 : Int32) (S : MS) : Prop :=
  ((((4 : Int32) * (gF S 0)) ≤ x3 → post x2 S) ∧ (¬ ((4 : Int32) * (gF S 0)) ≤ x3 → (vp_in x3 12 ∧ (((gI S 1 (x3).toNatClampNeg) = (-1 : Int32) → M_sides_w39 post T4 x2 x1 x3 S) ∧ (¬ (gI S 1 (x3).toNatClampNeg) = (-1 : Int32) → ((¬ x1 = 0 → M_sides_w43 post T4 x2 x1 x3 S) ∧ (x1 = 0 → (vp_in x3 12 ∧ (((gI S 1 (x3).toNatClampNeg) ≤ x3 → M_sides_w43 post T4 x2 x1 x3 S) ∧ (¬ (gI S 1 (x3).toNatClampNeg) ≤ x3 → M_sides_w39 post T4 x2 x1 x3 S))))))))))
set_option maxHeartbeats 4000000 in
set_option maxRecDepth 100000 in
theorem M_sides_a4 {p : Program} {l : Launch} {e : Env} {s : State} {m : MethodId} {args : Array Value} {below : List Frame} {meth : Method} {c : Code} {D : va_G} {dA : Nat → ClassId} {o : Nat → Nat} {A : Nat → Prop} {post : Int32 → MS → Prop} {T4 : Int32 → Int32 → Int32 → MS → Prop} (C : mC p m c cX5_sides 4 s args meth (Option.some Jvm.ClassFile.FieldType.int) A) (hT4 : ∀ (x1 : Int32) (x2 : Int32) (x3 : Int32) (S : MS), T4 x1 x2 x3 S → ∀ (H : Heap) (locs : List Loc) (ls : Array Slot), lv_has ls 4 [(0, .ref (o 0)), (1, .int x1), (2, .int x2), (3, .int x3)] → mw D dA o A s S H locs → W p l e rM_sides s m args below meth c H locs 0 0 (mQi below args s D dA o A post) (F0 m 4 ls [])) {x1 : Int32} {x2 : Int32} {x3 : Int32} {S : MS} (h : M_sides_w4 post T4 x1 x2 x3 S) {H : Heap} {locs : List Loc} {ls : Array Slot} (hl : lv_has ls 4 [(0, .ref (o 0)), (1, .int x1), (2, .int x2), (3, .int x3)]) (w : mw D dA o A s S H locs) : W p l e rM_sides s m args below meth c H locs 0 0 (mQi below args s D dA o A post) (F0 m 4 ls []) := by
  unfold M_sides_w4 at h
  obtain ⟨⟨hx, hb, hml, hown, hts⟩, hr, hlk, hA⟩ := id C
  refine lv_iload_n hx hb dX5_sides_4 rfl (lv_at hl 3 rfl) ?_
  refine lv_iconst (v := 4) hx hb dX5_sides_5 (by decide) ?_
  refine lv_aload_n hx hb dX5_sides_6 rfl (lv_at hl 0 rfl) ?_
  refine mr_get C w 0 (by decide) q577 rfl rfl dX5_sides_7 ?_
  refine lv_imul hx hb dX5_sides_10 ?_
  obtain ⟨h1, h2⟩ := h
  refine lv_icmp_ge (tgt := 52) hx hb dX5_sides_11 (by decide) (fun c1 => ?_) (fun c1 => ?_)
  · have h := h1 c1
    refine lv_iload_n hx hb dX5_sides_52 rfl (lv_at hl 2 rfl) ?_
    exact mr_iret C w h dX5_sides_53
  · have h := h2 c1
    refine lv_iload_n hx hb dX5_sides_14 rfl (lv_at hl 2 rfl) ?_
    refine lv_aload_n hx hb dX5_sides_15 rfl (lv_at hl 0 rfl) ?_
    refine mr_get C w 1 (by decide) q578 rfl rfl dX5_sides_16 ?_
    refine lv_iload_n hx hb dX5_sides_19 rfl (lv_at hl 3 rfl) ?_
    obtain ⟨hi, h⟩ := h
    refine mr_iald C w 1 0 rfl rfl hi dX5_sides_20 ?_
    refine lv_iconst (v := -1) hx hb dX5_sides_21 (by decide) ?_
    obtain ⟨h1, h2⟩ := h
    refine lv_icmp_eq (tgt := 39) hx hb dX5_sides_22 (by decide) (fun c1 => ?_) (fun c1 => ?_)
    · have h := h1 c1
      exact M_sides_a39 C hT4 h (lv_sub hl [0, 1, 3] rfl) w
    · have h := h2 c1
      refine lv_iload_n hx hb dX5_sides_25 rfl (lv_at hl 1 rfl) ?_
      obtain ⟨h1, h2⟩ := h
      refine lv_if_ne (tgt := 43) hx hb dX5_sides_26 (by decide) (fun c1 => ?_) (fun c1 => ?_)
      · have h := h1 c1
        exact M_sides_a43 C hT4 h (lv_sub hl [0, 1, 3] rfl) w
      · have h := h2 c1
        refine lv_iload_n hx hb dX5_sides_29 rfl (lv_at hl 3 rfl) ?_
        refine lv_aload_n hx hb dX5_sides_30 rfl (lv_at hl 0 rfl) ?_
        refine mr_get C w 1 (by decide) q578 rfl rfl dX5_sides_31 ?_
        refine lv_iload_n hx hb dX5_sides_34 rfl (lv_at hl 3 rfl) ?_
        obtain ⟨hi, h⟩ := h
        refine mr_iald C w 1 0 rfl rfl hi dX5_sides_35 ?_
        obtain ⟨h1, h2⟩ := h
        refine lv_icmp_ge (tgt := 43) hx hb dX5_sides_36 (by decide) (fun c1 => ?_) (fun c1 => ?_)
        · have h := h1 c1
          exact M_sides_a43 C hT4 h (lv_sub hl [0, 1, 3] rfl) w
        · have h := h2 c1
          exact M_sides_a39 C hT4 h (lv_sub hl [0, 1, 3] rfl) w
def M_sides_w0 (post : Int32 → MS → Prop) (T4 : Int32 → Int32 → Int32 → MS → Prop) (x1 : Int32) (S : MS) : Prop :=
  T4 x1 (0 : Int32) (0 : Int32) S
set_option maxHeartbeats 4000000 in
set_option maxRecDepth 100000 in
theorem M_sides_a0 {p : Program} {l : Launch} {e : Env} {s : State} {m : MethodId} {args : Array Value} {below : List Frame} {meth : Method} {c : Code} {D : va_G} {dA : Nat → ClassId} {o : Nat → Nat} {A : Nat → Prop} {post : Int32 → MS → Prop} {T4 : Int32 → Int32 → Int32 → MS → Prop} (C : mC p m c cX5_sides 4 s args meth (Option.some Jvm.ClassFile.FieldType.int) A) (hT4 : ∀ (x1 : Int32) (x2 : Int32) (x3 : Int32) (S : MS), T4 x1 x2 x3 S → ∀ (H : Heap) (locs : List Loc) (ls : Array Slot), lv_has ls 4 [(0, .ref (o 0)), (1, .int x1), (2, .int x2), (3, .int x3)] → mw D dA o A s S H locs → W p l e rM_sides s m args below meth c H locs 0 0 (mQi below args s D dA o A post) (F0 m 4 ls [])) {x1 : Int32} {S : MS} (h : M_sides_w0 post T4 x1 S) {H : Heap} {locs : List Loc} {ls : Array Slot} (hl : lv_has ls 4 [(0, .ref (o 0)), (1, .int x1)]) (w : mw D dA o A s S H locs) : W p l e rM_sides s m args below meth c H locs 0 0 (mQi below args s D dA o A post) (F0 m 0 ls []) := by
  unfold M_sides_w0 at h
  obtain ⟨⟨hx, hb, hml, hown, hts⟩, hr, hlk, hA⟩ := id C
  refine lv_iconst (v := 0) hx hb dX5_sides_0 (by decide) ?_
  refine lv_istore_n (lv' := [(2, .int _), (0, .ref _), (1, .int _)]) hx hb dX5_sides_1 rfl hl (by decide) rfl (fun ls hl => ?_)
  refine lv_iconst (v := 0) hx hb dX5_sides_2 (by decide) ?_
  refine lv_istore_n (lv' := [(3, .int _), (2, .int _), (0, .ref _), (1, .int _)]) hx hb dX5_sides_3 rfl hl (by decide) rfl (fun ls hl => ?_)
  exact hT4 _ _ _ _ h _ _ _ (lv_sub hl [2, 3, 1, 0] rfl) w
def M_sides_VC (x1 : Int32) (S : MS) (post : Int32 → MS → Prop) : Prop := ∀ (T4 : Int32 → Int32 → Int32 → MS → Prop), (∀ (x1 : Int32) (x2 : Int32) (x3 : Int32) (S : MS), M_sides_w4 post T4 x1 x2 x3 S → T4 x1 x2 x3 S) → M_sides_w0 post T4 x1 S
theorem M_sides_ok {x1 : Int32} {S : MS} {post : Int32 → MS → Prop} (h : M_sides_VC x1 S post) : M_sides x1 S post := by
  intro l D dA o sz
  refine mr_start (fun A => va_Qi post (mB D dA o A) A) rfl (Nat.le_of_ble_eq_true rfl) (by decide) ?_
  intro p e s m args below meth c ls A C w hl
  have hl : lv_has ls 4 [(0, .ref (o 0)), (1, .int x1)] := hl
  have h := h (fun (x1 : Int32) (x2 : Int32) (x3 : Int32) S => ∀ (H : Heap) (locs : List Loc) (ls : Array Slot), lv_has ls 4 [(0, .ref (o 0)), (1, .int x1), (2, .int x2), (3, .int x3)] → mw D dA o A s S H locs → W p l e rM_sides s m args below meth c H locs 0 0 (mQi below args s D dA o A post) (F0 m 4 ls [])) (fun _ _ _ S h H locs ls hl w => M_sides_a4 C (fun _ _ _ _ h => h) h hl w)
  exact M_sides_a0 C (fun _ _ _ _ h => h) h (lv_sub hl [0, 1] rfl) w

/-! isWhole()Z -/
def M_isWhole_w68 (post : Int32 → MS → Prop) (T30 : Int32 → Int32 → MS → Prop) (v0 : Int32) (x2 : Int32) (S : MS) : Prop :=
  T30 v0 (x2 + (1 : Int32)) S
set_option maxHeartbeats 4000000 in
set_option maxRecDepth 100000 in
theorem M_isWhole_a68 {p : Program} {l : Launch} {e : Env} {s : State} {m : MethodId} {args : Array Value} {below : List Frame} {meth : Method} {c : Code} {D : va_G} {dA : Nat → ClassId} {o : Nat → Nat} {A : Nat → Prop} {post : Int32 → MS → Prop} {T30 : Int32 → Int32 → MS → Prop} (C : mC p m c cX5_isWhole 3 s args meth (Option.some Jvm.ClassFile.FieldType.boolean) A) (hT30 : ∀ (x1 : Int32) (x2 : Int32) (S : MS), T30 x1 x2 S → ∀ (H : Heap) (locs : List Loc) (ls : Array Slot), lv_has ls 3 [(0, .ref (o 0)), (1, .int x1), (2, .int x2)] → mw D dA o A s S H locs → W p l e rM_isWhole s m args below meth c H locs 0 0 (mQi below args s D dA o A post) (F0 m 30 ls [])) {v0 : Int32} {x2 : Int32} {S : MS} (h : M_isWhole_w68 post T30 v0 x2 S) {H : Heap} {locs : List Loc} {ls : Array Slot} (hl : lv_has ls 3 [(0, .ref (o 0)), (2, .int x2)]) (w : mw D dA o A s S H locs) : W p l e rM_isWhole s m args below meth c H locs 0 0 (mQi below args s D dA o A post) (F0 m 68 ls [.int v0]) := by
  unfold M_isWhole_w68 at h
  obtain ⟨⟨hx, hb, hml, hown, hts⟩, hr, hlk, hA⟩ := id C
  refine lv_istore_n (lv' := [(1, .int _), (0, .ref _), (2, .int _)]) hx hb dX5_isWhole_68 rfl hl (by decide) rfl (fun ls hl => ?_)
  refine lv_iinc (v := _ + (1 : Int32)) (lv' := [(2, .int _), (1, .int _), (0, .ref _)]) hx hb dX5_isWhole_69 hl (k := 2) rfl rfl (by decide) rfl (fun ls hl => ?_)
  refine lv_goto (tgt := 30) hx hb dX5_isWhole_72 (by decide) ?_
  exact hT30 _ _ _ h _ _ _ (lv_sub hl [2, 1, 0] rfl) w
def M_isWhole_w67 (post : Int32 → MS → Prop) (T30 : Int32 → Int32 → MS → Prop) (x2 : Int32) (S : MS) : Prop :=
  M_isWhole_w68 post T30 (0 : Int32) x2 S
set_option maxHeartbeats 4000000 in
set_option maxRecDepth 100000 in
theorem M_isWhole_a67 {p : Program} {l : Launch} {e : Env} {s : State} {m : MethodId} {args : Array Value} {below : List Frame} {meth : Method} {c : Code} {D : va_G} {dA : Nat → ClassId} {o : Nat → Nat} {A : Nat → Prop} {post : Int32 → MS → Prop} {T30 : Int32 → Int32 → MS → Prop} (C : mC p m c cX5_isWhole 3 s args meth (Option.some Jvm.ClassFile.FieldType.boolean) A) (hT30 : ∀ (x1 : Int32) (x2 : Int32) (S : MS), T30 x1 x2 S → ∀ (H : Heap) (locs : List Loc) (ls : Array Slot), lv_has ls 3 [(0, .ref (o 0)), (1, .int x1), (2, .int x2)] → mw D dA o A s S H locs → W p l e rM_isWhole s m args below meth c H locs 0 0 (mQi below args s D dA o A post) (F0 m 30 ls [])) {x2 : Int32} {S : MS} (h : M_isWhole_w67 post T30 x2 S) {H : Heap} {locs : List Loc} {ls : Array Slot} (hl : lv_has ls 3 [(0, .ref (o 0)), (2, .int x2)]) (w : mw D dA o A s S H locs) : W p l e rM_isWhole s m args below meth c H locs 0 0 (mQi below args s D dA o A post) (F0 m 67 ls []) := by
  unfold M_isWhole_w67 at h
  obtain ⟨⟨hx, hb, hml, hown, hts⟩, hr, hlk, hA⟩ := id C
  refine lv_iconst (v := 0) hx hb dX5_isWhole_67 (by decide) ?_
  exact M_isWhole_a68 C hT30 h (lv_sub hl [0, 1] rfl) w
def M_isWhole_w63 (post : Int32 → MS → Prop) (T30 : Int32 → Int32 → MS → Prop) (x2 : Int32) (S : MS) : Prop :=
  M_isWhole_w68 post T30 (1 : Int32) x2 S
set_option maxHeartbeats 4000000 in
set_option maxRecDepth 100000 in
theorem M_isWhole_a63 {p : Program} {l : Launch} {e : Env} {s : State} {m : MethodId} {args : Array Value} {below : List Frame} {meth : Method} {c : Code} {D : va_G} {dA : Nat → ClassId} {o : Nat → Nat} {A : Nat → Prop} {post : Int32 → MS → Prop} {T30 : Int32 → Int32 → MS → Prop} (C : mC p m c cX5_isWhole 3 s args meth (Option.some Jvm.ClassFile.FieldType.boolean) A) (hT30 : ∀ (x1 : Int32) (x2 : Int32) (S : MS), T30 x1 x2 S → ∀ (H : Heap) (locs : List Loc) (ls : Array Slot), lv_has ls 3 [(0, .ref (o 0)), (1, .int x1), (2, .int x2)] → mw D dA o A s S H locs → W p l e rM_isWhole s m args below meth c H locs 0 0 (mQi below args s D dA o A post) (F0 m 30 ls [])) {x2 : Int32} {S : MS} (h : M_isWhole_w63 post T30 x2 S) {H : Heap} {locs : List Loc} {ls : Array Slot} (hl : lv_has ls 3 [(0, .ref (o 0)), (2, .int x2)]) (w : mw D dA o A s S H locs) : W p l e rM_isWhole s m args below meth c H locs 0 0 (mQi below args s D dA o A post) (F0 m 63 ls []) := by
  unfold M_isWhole_w63 at h
  obtain ⟨⟨hx, hb, hml, hown, hts⟩, hr, hlk, hA⟩ := id C
  refine lv_iconst (v := 1) hx hb dX5_isWhole_63 (by decide) ?_
  refine lv_goto (tgt := 68) hx hb dX5_isWhole_64 (by decide) ?_
  exact M_isWhole_a68 C hT30 h (lv_sub hl [0, 1] rfl) w
def M_isWhole_w30 (post : Int32 → MS → Prop) (T30 : Int32 → Int32 → MS → Prop) (x1 : Int32) (x2 : Int32) (S : MS) : Prop :=
  ((((4 : Int32) * (gF S 0)) ≤ x2 → (zok x1 ∧ post x1 S)) ∧ (¬ ((4 : Int32) * (gF S 0)) ≤ x2 → ((x1 = 0 → M_isWhole_w67 post T30 x2 S) ∧ (¬ x1 = 0 → (vp_in x2 12 ∧ ((¬ (gI S 7 (x2).toNatClampNeg) = x2 → M_isWhole_w63 post T30 x2 S) ∧ ((gI S 7 (x2).toNatClampNeg) = x2 → M_linkOf x2 S (fun (r1 : Int32) (S1 : MS) => ((¬ r1 = (2 : Int32) → M_isWhole_w67 post T30 x2 S1) ∧ (r1 = (2 : Int32) → M_isWhole_w63 post T30 x2 S1))))))))))
set_option maxHeartbeats 4000000 in
set_option maxRecDepth 100000 in
theorem M_isWhole_a30 {p : Program} {l : Launch} {e : Env} {s : State} {m : MethodId} {args : Array Value} {below : List Frame} {meth : Method} {c : Code} {D : va_G} {dA : Nat → ClassId} {o : Nat → Nat} {A : Nat → Prop} {post : Int32 → MS → Prop} {T30 : Int32 → Int32 → MS → Prop} (C : mC p m c cX5_isWhole 3 s args meth (Option.some Jvm.ClassFile.FieldType.boolean) A) (hT30 : ∀ (x1 : Int32) (x2 : Int32) (S : MS), T30 x1 x2 S → ∀ (H : Heap) (locs : List Loc) (ls : Array Slot), lv_has ls 3 [(0, .ref (o 0)), (1, .int x1), (2, .int x2)] → mw D dA o A s S H locs → W p l e rM_isWhole s m args below meth c H locs 0 0 (mQi below args s D dA o A post) (F0 m 30 ls [])) {x1 : Int32} {x2 : Int32} {S : MS} (h : M_isWhole_w30 post T30 x1 x2 S) {H : Heap} {locs : List Loc} {ls : Array Slot} (hl : lv_has ls 3 [(0, .ref (o 0)), (1, .int x1), (2, .int x2)]) (w : mw D dA o A s S H locs) : W p l e rM_isWhole s m args below meth c H locs 0 0 (mQi below args s D dA o A post) (F0 m 30 ls []) := by
  unfold M_isWhole_w30 at h
  obtain ⟨⟨hx, hb, hml, hown, hts⟩, hr, hlk, hA⟩ := id C
  refine lv_iload_n hx hb dX5_isWhole_30 rfl (lv_at hl 2 rfl) ?_
  refine lv_iconst (v := 4) hx hb dX5_isWhole_31 (by decide) ?_
  refine lv_aload_n hx hb dX5_isWhole_32 rfl (lv_at hl 0 rfl) ?_
  refine mr_get C w 0 (by decide) q577 rfl rfl dX5_isWhole_33 ?_
  refine lv_imul hx hb dX5_isWhole_36 ?_
  obtain ⟨h1, h2⟩ := h
  refine lv_icmp_ge (tgt := 75) hx hb dX5_isWhole_37 (by decide) (fun c1 => ?_) (fun c1 => ?_)
  · have h := h1 c1
    refine lv_iload_n hx hb dX5_isWhole_75 rfl (lv_at hl 1 rfl) ?_
    exact mr_zret C w (zok_n h.1) h.2 dX5_isWhole_76
  · have h := h2 c1
    refine lv_iload_n hx hb dX5_isWhole_40 rfl (lv_at hl 1 rfl) ?_
    obtain ⟨h1, h2⟩ := h
    refine lv_if_eq (tgt := 67) hx hb dX5_isWhole_41 (by decide) (fun c1 => ?_) (fun c1 => ?_)
    · have h := h1 c1
      exact M_isWhole_a67 C hT30 h (lv_sub hl [0, 2] rfl) w
    · have h := h2 c1
      refine lv_aload_n hx hb dX5_isWhole_44 rfl (lv_at hl 0 rfl) ?_
      refine mr_get C w 7 (by decide) q584 rfl rfl dX5_isWhole_45 ?_
      refine lv_iload_n hx hb dX5_isWhole_48 rfl (lv_at hl 2 rfl) ?_
      obtain ⟨hi, h⟩ := h
      refine mr_iald C w 7 6 rfl rfl hi dX5_isWhole_49 ?_
      refine lv_iload_n hx hb dX5_isWhole_50 rfl (lv_at hl 2 rfl) ?_
      obtain ⟨h1, h2⟩ := h
      refine lv_icmp_ne (tgt := 63) hx hb dX5_isWhole_51 (by decide) (fun c1 => ?_) (fun c1 => ?_)
      · have h := h1 c1
        exact M_isWhole_a63 C hT30 h (lv_sub hl [0, 2] rfl) w
      · have h := h2 c1
        refine lv_aload_n hx hb dX5_isWhole_54 rfl (lv_at hl 0 rfl) ?_
        refine lv_iload_n hx hb dX5_isWhole_55 rfl (lv_at hl 2 rfl) ?_
        refine mr_callVI (rest := []) C w h (lw_V q747 q749 qs47 q87 q750) M_linkOf_d rfl rfl ⟨Nat.le_of_ble_eq_true rfl, Nat.le_of_ble_eq_true rfl⟩ rfl hl.1 rfl (Nat.le_of_ble_eq_true rfl) ⟨Nat.zero_le _, Nat.zero_le _⟩ dX5_isWhole_56 (fun r1 S1 H locs h w => ?_)
        refine lv_iconst (v := 2) hx hb dX5_isWhole_59 (by decide) ?_
        obtain ⟨h1, h2⟩ := h
        refine lv_icmp_ne (tgt := 67) hx hb dX5_isWhole_60 (by decide) (fun c1 => ?_) (fun c1 => ?_)
        · have h := h1 c1
          exact M_isWhole_a67 C hT30 h (lv_sub hl [0, 2] rfl) w
        · have h := h2 c1
          exact M_isWhole_a63 C hT30 h (lv_sub hl [0, 2] rfl) w
def M_isWhole_w27 (post : Int32 → MS → Prop) (T30 : Int32 → Int32 → MS → Prop) (v0 : Int32) (S : MS) : Prop :=
  T30 v0 (0 : Int32) S
set_option maxHeartbeats 4000000 in
set_option maxRecDepth 100000 in
theorem M_isWhole_a27 {p : Program} {l : Launch} {e : Env} {s : State} {m : MethodId} {args : Array Value} {below : List Frame} {meth : Method} {c : Code} {D : va_G} {dA : Nat → ClassId} {o : Nat → Nat} {A : Nat → Prop} {post : Int32 → MS → Prop} {T30 : Int32 → Int32 → MS → Prop} (C : mC p m c cX5_isWhole 3 s args meth (Option.some Jvm.ClassFile.FieldType.boolean) A) (hT30 : ∀ (x1 : Int32) (x2 : Int32) (S : MS), T30 x1 x2 S → ∀ (H : Heap) (locs : List Loc) (ls : Array Slot), lv_has ls 3 [(0, .ref (o 0)), (1, .int x1), (2, .int x2)] → mw D dA o A s S H locs → W p l e rM_isWhole s m args below meth c H locs 0 0 (mQi below args s D dA o A post) (F0 m 30 ls [])) {v0 : Int32} {S : MS} (h : M_isWhole_w27 post T30 v0 S) {H : Heap} {locs : List Loc} {ls : Array Slot} (hl : lv_has ls 3 [(0, .ref (o 0))]) (w : mw D dA o A s S H locs) : W p l e rM_isWhole s m args below meth c H locs 0 0 (mQi below args s D dA o A post) (F0 m 27 ls [.int v0]) := by
  unfold M_isWhole_w27 at h
  obtain ⟨⟨hx, hb, hml, hown, hts⟩, hr, hlk, hA⟩ := id C
  refine lv_istore_n (lv' := [(1, .int _), (0, .ref _)]) hx hb dX5_isWhole_27 rfl hl (by decide) rfl (fun ls hl => ?_)
  refine lv_iconst (v := 0) hx hb dX5_isWhole_28 (by decide) ?_
  refine lv_istore_n (lv' := [(2, .int _), (1, .int _), (0, .ref _)]) hx hb dX5_isWhole_29 rfl hl (by decide) rfl (fun ls hl => ?_)
  exact hT30 _ _ _ h _ _ _ (lv_sub hl [2, 1, 0] rfl) w
def M_isWhole_w26 (post : Int32 → MS → Prop) (T30 : Int32 → Int32 → MS → Prop) (S : MS) : Prop :=
  M_isWhole_w27 post T30 (0 : Int32) S
set_option maxHeartbeats 4000000 in
set_option maxRecDepth 100000 in
theorem M_isWhole_a26 {p : Program} {l : Launch} {e : Env} {s : State} {m : MethodId} {args : Array Value} {below : List Frame} {meth : Method} {c : Code} {D : va_G} {dA : Nat → ClassId} {o : Nat → Nat} {A : Nat → Prop} {post : Int32 → MS → Prop} {T30 : Int32 → Int32 → MS → Prop} (C : mC p m c cX5_isWhole 3 s args meth (Option.some Jvm.ClassFile.FieldType.boolean) A) (hT30 : ∀ (x1 : Int32) (x2 : Int32) (S : MS), T30 x1 x2 S → ∀ (H : Heap) (locs : List Loc) (ls : Array Slot), lv_has ls 3 [(0, .ref (o 0)), (1, .int x1), (2, .int x2)] → mw D dA o A s S H locs → W p l e rM_isWhole s m args below meth c H locs 0 0 (mQi below args s D dA o A post) (F0 m 30 ls [])) {S : MS} (h : M_isWhole_w26 post T30 S) {H : Heap} {locs : List Loc} {ls : Array Slot} (hl : lv_has ls 3 [(0, .ref (o 0))]) (w : mw D dA o A s S H locs) : W p l e rM_isWhole s m args below meth c H locs 0 0 (mQi below args s D dA o A post) (F0 m 26 ls []) := by
  unfold M_isWhole_w26 at h
  obtain ⟨⟨hx, hb, hml, hown, hts⟩, hr, hlk, hA⟩ := id C
  refine lv_iconst (v := 0) hx hb dX5_isWhole_26 (by decide) ?_
  exact M_isWhole_a27 C hT30 h (lv_sub hl [0] rfl) w
def M_isWhole_w0 (post : Int32 → MS → Prop) (T30 : Int32 → Int32 → MS → Prop) (S : MS) : Prop :=
  (((gF S 0) ≤ 0 → M_isWhole_w26 post T30 S) ∧ (¬ (gF S 0) ≤ 0 → M_sides (1 : Int32) S (fun (r1 : Int32) (S1 : MS) => ((¬ r1 = 0 → M_isWhole_w26 post T30 S1) ∧ (r1 = 0 → M_anyBent S1 (fun (r2 : Int32) (S2 : MS) => ((¬ r2 = 0 → M_isWhole_w26 post T30 S2) ∧ (r2 = 0 → M_isWhole_w27 post T30 (1 : Int32) S2))))))))
set_option maxHeartbeats 4000000 in
set_option maxRecDepth 100000 in
theorem M_isWhole_a0 {p : Program} {l : Launch} {e : Env} {s : State} {m : MethodId} {args : Array Value} {below : List Frame} {meth : Method} {c : Code} {D : va_G} {dA : Nat → ClassId} {o : Nat → Nat} {A : Nat → Prop} {post : Int32 → MS → Prop} {T30 : Int32 → Int32 → MS → Prop} (C : mC p m c cX5_isWhole 3 s args meth (Option.some Jvm.ClassFile.FieldType.boolean) A) (hT30 : ∀ (x1 : Int32) (x2 : Int32) (S : MS), T30 x1 x2 S → ∀ (H : Heap) (locs : List Loc) (ls : Array Slot), lv_has ls 3 [(0, .ref (o 0)), (1, .int x1), (2, .int x2)] → mw D dA o A s S H locs → W p l e rM_isWhole s m args below meth c H locs 0 0 (mQi below args s D dA o A post) (F0 m 30 ls [])) {S : MS} (h : M_isWhole_w0 post T30 S) {H : Heap} {locs : List Loc} {ls : Array Slot} (hl : lv_has ls 3 [(0, .ref (o 0))]) (w : mw D dA o A s S H locs) : W p l e rM_isWhole s m args below meth c H locs 0 0 (mQi below args s D dA o A post) (F0 m 0 ls []) := by
  unfold M_isWhole_w0 at h
  obtain ⟨⟨hx, hb, hml, hown, hts⟩, hr, hlk, hA⟩ := id C
  refine lv_aload_n hx hb dX5_isWhole_0 rfl (lv_at hl 0 rfl) ?_
  refine mr_get C w 0 (by decide) q577 rfl rfl dX5_isWhole_1 ?_
  obtain ⟨h1, h2⟩ := h
  refine lv_if_le (tgt := 26) hx hb dX5_isWhole_4 (by decide) (fun c1 => ?_) (fun c1 => ?_)
  · have h := h1 c1
    exact M_isWhole_a26 C hT30 h (lv_sub hl [0] rfl) w
  · have h := h2 c1
    refine lv_aload_n hx hb dX5_isWhole_7 rfl (lv_at hl 0 rfl) ?_
    refine lv_iconst (v := 1) hx hb dX5_isWhole_8 (by decide) ?_
    refine mr_callVI (rest := []) C w h (lw_V q763 q765 qs50 q87 q766) M_sides_d rfl rfl ⟨Nat.le_of_ble_eq_true rfl, Nat.le_of_ble_eq_true rfl⟩ rfl hl.1 rfl (Nat.le_of_ble_eq_true rfl) ⟨Nat.zero_le _, Nat.zero_le _⟩ dX5_isWhole_9 (fun r1 S1 H locs h w => ?_)
    obtain ⟨h1, h2⟩ := h
    refine lv_if_ne (tgt := 26) hx hb dX5_isWhole_12 (by decide) (fun c1 => ?_) (fun c1 => ?_)
    · have h := h1 c1
      exact M_isWhole_a26 C hT30 h (lv_sub hl [0] rfl) w
    · have h := h2 c1
      refine lv_aload_n hx hb dX5_isWhole_15 rfl (lv_at hl 0 rfl) ?_
      refine mr_callVI (rest := []) C w h (lw_V q771 q773 qs52 q87 q774) M_anyBent_d rfl rfl ⟨Nat.le_of_ble_eq_true rfl, Nat.le_of_ble_eq_true rfl⟩ rfl hl.1 rfl (Nat.le_of_ble_eq_true rfl) ⟨Nat.zero_le _, Nat.zero_le _⟩ dX5_isWhole_16 (fun r2 S2 H locs h w => ?_)
      obtain ⟨h1, h2⟩ := h
      refine lv_if_ne (tgt := 26) hx hb dX5_isWhole_19 (by decide) (fun c1 => ?_) (fun c1 => ?_)
      · have h := h1 c1
        exact M_isWhole_a26 C hT30 h (lv_sub hl [0] rfl) w
      · have h := h2 c1
        refine lv_iconst (v := 1) hx hb dX5_isWhole_22 (by decide) ?_
        refine lv_goto (tgt := 27) hx hb dX5_isWhole_23 (by decide) ?_
        exact M_isWhole_a27 C hT30 h (lv_sub hl [0] rfl) w
def M_isWhole_VC (S : MS) (post : Int32 → MS → Prop) : Prop := ∀ (T30 : Int32 → Int32 → MS → Prop), (∀ (x1 : Int32) (x2 : Int32) (S : MS), M_isWhole_w30 post T30 x1 x2 S → T30 x1 x2 S) → M_isWhole_w0 post T30 S
theorem M_isWhole_ok {S : MS} {post : Int32 → MS → Prop} (h : M_isWhole_VC S post) : M_isWhole S post := by
  intro l D dA o sz
  refine mr_start (fun A => va_Qi post (mB D dA o A) A) rfl (Nat.le_of_ble_eq_true rfl) (by decide) ?_
  intro p e s m args below meth c ls A C w hl
  have hl : lv_has ls 3 [(0, .ref (o 0))] := hl
  have h := h (fun (x1 : Int32) (x2 : Int32) S => ∀ (H : Heap) (locs : List Loc) (ls : Array Slot), lv_has ls 3 [(0, .ref (o 0)), (1, .int x1), (2, .int x2)] → mw D dA o A s S H locs → W p l e rM_isWhole s m args below meth c H locs 0 0 (mQi below args s D dA o A post) (F0 m 30 ls [])) (fun _ _ S h H locs ls hl w => M_isWhole_a30 C (fun _ _ _ h => h) h hl w)
  exact M_isWhole_a0 C (fun _ _ _ h => h) h (lv_sub hl [0] rfl) w

/-! isEvenChange(I)Z -/
def M_isEvenChange_w75 (post : Int32 → MS → Prop) (T4 : Int32 → Int32 → Int32 → MS → Prop) (T14 : Int32 → Int32 → Int32 → Int32 → MS → Prop) (v0 : Int32) (S : MS) : Prop :=
  (zok v0 ∧ post v0 S)
set_option maxHeartbeats 4000000 in
set_option maxRecDepth 100000 in
theorem M_isEvenChange_a75 {p : Program} {l : Launch} {e : Env} {s : State} {m : MethodId} {args : Array Value} {below : List Frame} {meth : Method} {c : Code} {D : va_G} {dA : Nat → ClassId} {o : Nat → Nat} {A : Nat → Prop} {post : Int32 → MS → Prop} {T4 : Int32 → Int32 → Int32 → MS → Prop} {T14 : Int32 → Int32 → Int32 → Int32 → MS → Prop} (C : mC p m c cX5_isEvenChange 5 s args meth (Option.some Jvm.ClassFile.FieldType.boolean) A) (hT4 : ∀ (x1 : Int32) (x2 : Int32) (x3 : Int32) (S : MS), T4 x1 x2 x3 S → ∀ (H : Heap) (locs : List Loc) (ls : Array Slot), lv_has ls 5 [(0, .ref (o 0)), (1, .int x1), (2, .int x2), (3, .int x3)] → mw D dA o A s S H locs → W p l e rM_isEvenChange s m args below meth c H locs 0 0 (mQi below args s D dA o A post) (F0 m 4 ls [])) (hT14 : ∀ (x1 : Int32) (x2 : Int32) (x3 : Int32) (x4 : Int32) (S : MS), T14 x1 x2 x3 x4 S → ∀ (H : Heap) (locs : List Loc) (ls : Array Slot), lv_has ls 5 [(0, .ref (o 0)), (1, .int x1), (2, .int x2), (3, .int x3), (4, .int x4)] → mw D dA o A s S H locs → W p l e rM_isEvenChange s m args below meth c H locs 0 0 (mQi below args s D dA o A post) (F0 m 14 ls [])) {v0 : Int32} {S : MS} (h : M_isEvenChange_w75 post T4 T14 v0 S) {H : Heap} {locs : List Loc} {ls : Array Slot} (hl : lv_has ls 5 [(0, .ref (o 0))]) (w : mw D dA o A s S H locs) : W p l e rM_isEvenChange s m args below meth c H locs 0 0 (mQi below args s D dA o A post) (F0 m 75 ls [.int v0]) := by
  unfold M_isEvenChange_w75 at h
  obtain ⟨⟨hx, hb, hml, hown, hts⟩, hr, hlk, hA⟩ := id C
  exact mr_zret C w (zok_n h.1) h.2 dX5_isEvenChange_75
def M_isEvenChange_w50 (post : Int32 → MS → Prop) (T4 : Int32 → Int32 → Int32 → MS → Prop) (T14 : Int32 → Int32 → Int32 → Int32 → MS → Prop) (v0 : Int32) (v1 : Int32) (x1 : Int32) (x3 : Int32) (x4 : Int32) (S : MS) : Prop :=
  T14 x1 (v1 + v0) x3 (x4 + (1 : Int32)) S
set_option maxHeartbeats 4000000 in
set_option maxRecDepth 100000 in
theorem M_isEvenChange_a50 {p : Program} {l : Launch} {e : Env} {s : State} {m : MethodId} {args : Array Value} {below : List Frame} {meth : Method} {c : Code} {D : va_G} {dA : Nat → ClassId} {o : Nat → Nat} {A : Nat → Prop} {post : Int32 → MS → Prop} {T4 : Int32 → Int32 → Int32 → MS → Prop} {T14 : Int32 → Int32 → Int32 → Int32 → MS → Prop} (C : mC p m c cX5_isEvenChange 5 s args meth (Option.some Jvm.ClassFile.FieldType.boolean) A) (hT4 : ∀ (x1 : Int32) (x2 : Int32) (x3 : Int32) (S : MS), T4 x1 x2 x3 S → ∀ (H : Heap) (locs : List Loc) (ls : Array Slot), lv_has ls 5 [(0, .ref (o 0)), (1, .int x1), (2, .int x2), (3, .int x3)] → mw D dA o A s S H locs → W p l e rM_isEvenChange s m args below meth c H locs 0 0 (mQi below args s D dA o A post) (F0 m 4 ls [])) (hT14 : ∀ (x1 : Int32) (x2 : Int32) (x3 : Int32) (x4 : Int32) (S : MS), T14 x1 x2 x3 x4 S → ∀ (H : Heap) (locs : List Loc) (ls : Array Slot), lv_has ls 5 [(0, .ref (o 0)), (1, .int x1), (2, .int x2), (3, .int x3), (4, .int x4)] → mw D dA o A s S H locs → W p l e rM_isEvenChange s m args below meth c H locs 0 0 (mQi below args s D dA o A post) (F0 m 14 ls [])) {v0 : Int32} {v1 : Int32} {x1 : Int32} {x3 : Int32} {x4 : Int32} {S : MS} (h : M_isEvenChange_w50 post T4 T14 v0 v1 x1 x3 x4 S) {H : Heap} {locs : List Loc} {ls : Array Slot} (hl : lv_has ls 5 [(0, .ref (o 0)), (1, .int x1), (3, .int x3), (4, .int x4)]) (w : mw D dA o A s S H locs) : W p l e rM_isEvenChange s m args below meth c H locs 0 0 (mQi below args s D dA o A post) (F0 m 50 ls [.int v0, .int v1]) := by
  unfold M_isEvenChange_w50 at h
  obtain ⟨⟨hx, hb, hml, hown, hts⟩, hr, hlk, hA⟩ := id C
  refine lv_iadd hx hb dX5_isEvenChange_50 ?_
  refine lv_istore_n (lv' := [(2, .int _), (0, .ref _), (1, .int _), (3, .int _), (4, .int _)]) hx hb dX5_isEvenChange_51 rfl hl (by decide) rfl (fun ls hl => ?_)
  refine lv_iinc (v := _ + (1 : Int32)) (lv' := [(4, .int _), (2, .int _), (0, .ref _), (1, .int _), (3, .int _)]) hx hb dX5_isEvenChange_52 hl (k := 4) rfl rfl (by decide) rfl (fun ls hl => ?_)
  refine lv_goto (tgt := 14) hx hb dX5_isEvenChange_55 (by decide) ?_
  exact hT14 _ _ _ _ _ h _ _ _ (lv_sub hl [2, 3, 1, 4, 0] rfl) w
def M_isEvenChange_w14 (post : Int32 → MS → Prop) (T4 : Int32 → Int32 → Int32 → MS → Prop) (T14 : Int32 → Int32 → Int32 → Int32 → MS → Prop) (x1 : Int32) (x2 : Int32) (x3 : Int32) (x4 : Int32) (S : MS) : Prop :=
  (((4 : Int32) ≤ x4 → T4 x1 x2 (x3 + (1 : Int32)) S) ∧ (¬ (4 : Int32) ≤ x4 → (vp_in (((4 : Int32) * x1) + x3) 48 ∧ (vp_in (((4 : Int32) * x1) + x4) 48 ∧ (((gI S 2 ((((4 : Int32) * x1) + x3)).toNatClampNeg) ≤ (gI S 2 ((((4 : Int32) * x1) + x4)).toNatClampNeg) → M_isEvenChange_w50 post T4 T14 (0 : Int32) x2 x1 x3 x4 S) ∧ (¬ (gI S 2 ((((4 : Int32) * x1) + x3)).toNatClampNeg) ≤ (gI S 2 ((((4 : Int32) * x1) + x4)).toNatClampNeg) → M_isEvenChange_w50 post T4 T14 (1 : Int32) x2 x1 x3 x4 S))))))
set_option maxHeartbeats 4000000 in
set_option maxRecDepth 100000 in
theorem M_isEvenChange_a14 {p : Program} {l : Launch} {e : Env} {s : State} {m : MethodId} {args : Array Value} {below : List Frame} {meth : Method} {c : Code} {D : va_G} {dA : Nat → ClassId} {o : Nat → Nat} {A : Nat → Prop} {post : Int32 → MS → Prop} {T4 : Int32 → Int32 → Int32 → MS → Prop} {T14 : Int32 → Int32 → Int32 → Int32 → MS → Prop} (C : mC p m c cX5_isEvenChange 5 s args meth (Option.some Jvm.ClassFile.FieldType.boolean) A) (hT4 : ∀ (x1 : Int32) (x2 : Int32) (x3 : Int32) (S : MS), T4 x1 x2 x3 S → ∀ (H : Heap) (locs : List Loc) (ls : Array Slot), lv_has ls 5 [(0, .ref (o 0)), (1, .int x1), (2, .int x2), (3, .int x3)] → mw D dA o A s S H locs → W p l e rM_isEvenChange s m args below meth c H locs 0 0 (mQi below args s D dA o A post) (F0 m 4 ls [])) (hT14 : ∀ (x1 : Int32) (x2 : Int32) (x3 : Int32) (x4 : Int32) (S : MS), T14 x1 x2 x3 x4 S → ∀ (H : Heap) (locs : List Loc) (ls : Array Slot), lv_has ls 5 [(0, .ref (o 0)), (1, .int x1), (2, .int x2), (3, .int x3), (4, .int x4)] → mw D dA o A s S H locs → W p l e rM_isEvenChange s m args below meth c H locs 0 0 (mQi below args s D dA o A post) (F0 m 14 ls [])) {x1 : Int32} {x2 : Int32} {x3 : Int32} {x4 : Int32} {S : MS} (h : M_isEvenChange_w14 post T4 T14 x1 x2 x3 x4 S) {H : Heap} {locs : List Loc} {ls : Array Slot} (hl : lv_has ls 5 [(0, .ref (o 0)), (1, .int x1), (2, .int x2), (3, .int x3), (4, .int x4)]) (w : mw D dA o A s S H locs) : W p l e rM_isEvenChange s m args below meth c H locs 0 0 (mQi below args s D dA o A post) (F0 m 14 ls []) := by
  unfold M_isEvenChange_w14 at h
  obtain ⟨⟨hx, hb, hml, hown, hts⟩, hr, hlk, hA⟩ := id C
  refine lv_iload hx hb dX5_isEvenChange_14 (lv_at hl 4 rfl) ?_
  refine lv_iconst (v := 4) hx hb dX5_isEvenChange_16 (by decide) ?_
  obtain ⟨h1, h2⟩ := h
  refine lv_icmp_ge (tgt := 58) hx hb dX5_isEvenChange_17 (by decide) (fun c1 => ?_) (fun c1 => ?_)
  · have h := h1 c1
    refine lv_iinc (v := _ + (1 : Int32)) (lv' := [(3, .int _), (0, .ref _), (1, .int _), (2, .int _), (4, .int _)]) hx hb dX5_isEvenChange_58 hl (k := 3) rfl rfl (by decide) rfl (fun ls hl => ?_)
    refine lv_goto (tgt := 4) hx hb dX5_isEvenChange_61 (by decide) ?_
    exact hT4 _ _ _ _ h _ _ _ (lv_sub hl [1, 2, 3, 0] rfl) w
  · have h := h2 c1
    refine lv_iload_n hx hb dX5_isEvenChange_20 rfl (lv_at hl 2 rfl) ?_
    refine lv_aload_n hx hb dX5_isEvenChange_21 rfl (lv_at hl 0 rfl) ?_
    refine mr_get C w 2 (by decide) q579 rfl rfl dX5_isEvenChange_22 ?_
    refine lv_iconst (v := 4) hx hb dX5_isEvenChange_25 (by decide) ?_
    refine lv_iload_n hx hb dX5_isEvenChange_26 rfl (lv_at hl 1 rfl) ?_
    refine lv_imul hx hb dX5_isEvenChange_27 ?_
    refine lv_iload_n hx hb dX5_isEvenChange_28 rfl (lv_at hl 3 rfl) ?_
    refine lv_iadd hx hb dX5_isEvenChange_29 ?_
    obtain ⟨hi, h⟩ := h
    refine mr_iald C w 2 1 rfl rfl hi dX5_isEvenChange_30 ?_
    refine lv_aload_n hx hb dX5_isEvenChange_31 rfl (lv_at hl 0 rfl) ?_
    refine mr_get C w 2 (by decide) q579 rfl rfl dX5_isEvenChange_32 ?_
    refine lv_iconst (v := 4) hx hb dX5_isEvenChange_35 (by decide) ?_
    refine lv_iload_n hx hb dX5_isEvenChange_36 rfl (lv_at hl 1 rfl) ?_
    refine lv_imul hx hb dX5_isEvenChange_37 ?_
    refine lv_iload hx hb dX5_isEvenChange_38 (lv_at hl 4 rfl) ?_
    refine lv_iadd hx hb dX5_isEvenChange_40 ?_
    obtain ⟨hi, h⟩ := h
    refine mr_iald C w 2 1 rfl rfl hi dX5_isEvenChange_41 ?_
    obtain ⟨h1, h2⟩ := h
    refine lv_icmp_le (tgt := 49) hx hb dX5_isEvenChange_42 (by decide) (fun c1 => ?_) (fun c1 => ?_)
    · have h := h1 c1
      refine lv_iconst (v := 0) hx hb dX5_isEvenChange_49 (by decide) ?_
      exact M_isEvenChange_a50 C hT4 hT14 h (lv_sub hl [0, 1, 3, 4] rfl) w
    · have h := h2 c1
      refine lv_iconst (v := 1) hx hb dX5_isEvenChange_45 (by decide) ?_
      refine lv_goto (tgt := 50) hx hb dX5_isEvenChange_46 (by decide) ?_
      exact M_isEvenChange_a50 C hT4 hT14 h (lv_sub hl [0, 1, 3, 4] rfl) w
def M_isEvenChange_w4 (post : Int32 → MS → Prop) (T4 : Int32 → Int32 → Int32 → MS → Prop) (T14 : Int32 → Int32 → Int32 → Int32 → MS → Prop) (x1 : Int32) (x2 : Int32) (x3 : Int32) (S : MS) : Prop :=
  (((4 : Int32) ≤ x3 → ((¬ (x2 - x2 / (2 : Int32) * (2 : Int32)) = 0 → M_isEvenChange_w75 post T4 T14 (0 : Int32) S) ∧ ((x2 - x2 / (2 : Int32) * (2 : Int32)) = 0 → M_isEvenChange_w75 post T4 T14 (1 : Int32) S))) ∧ (¬ (4 : Int32) ≤ x3 → T14 x1 x2 x3 (x3 + (1 : Int32)) S))
set_option maxHeartbeats 4000000 in
set_option maxRecDepth 100000 in
theorem M_isEvenChange_a4 {p : Program} {l : Launch} {e : Env} {s : State} {m : MethodId} {args : Array Value} {below : List Frame} {meth : Method} {c : Code} {D : va_G} {dA : Nat → ClassId} {o : Nat → Nat} {A : Nat → Prop} {post : Int32 → MS → Prop} {T4 : Int32 → Int32 → Int32 → MS → Prop} {T14 : Int32 → Int32 → Int32 → Int32 → MS → Prop} (C : mC p m c cX5_isEvenChange 5 s args meth (Option.some Jvm.ClassFile.FieldType.boolean) A) (hT4 : ∀ (x1 : Int32) (x2 : Int32) (x3 : Int32) (S : MS), T4 x1 x2 x3 S → ∀ (H : Heap) (locs : List Loc) (ls : Array Slot), lv_has ls 5 [(0, .ref (o 0)), (1, .int x1), (2, .int x2), (3, .int x3)] → mw D dA o A s S H locs → W p l e rM_isEvenChange s m args below meth c H locs 0 0 (mQi below args s D dA o A post) (F0 m 4 ls [])) (hT14 : ∀ (x1 : Int32) (x2 : Int32) (x3 : Int32) (x4 : Int32) (S : MS), T14 x1 x2 x3 x4 S → ∀ (H : Heap) (locs : List Loc) (ls : Array Slot), lv_has ls 5 [(0, .ref (o 0)), (1, .int x1), (2, .int x2), (3, .int x3), (4, .int x4)] → mw D dA o A s S H locs → W p l e rM_isEvenChange s m args below meth c H locs 0 0 (mQi below args s D dA o A post) (F0 m 14 ls [])) {x1 : Int32} {x2 : Int32} {x3 : Int32} {S : MS} (h : M_isEvenChange_w4 post T4 T14 x1 x2 x3 S) {H : Heap} {locs : List Loc} {ls : Array Slot} (hl : lv_has ls 5 [(0, .ref (o 0)), (1, .int x1), (2, .int x2), (3, .int x3)]) (w : mw D dA o A s S H locs) : W p l e rM_isEvenChange s m args below meth c H locs 0 0 (mQi below args s D dA o A post) (F0 m 4 ls []) := by
  unfold M_isEvenChange_w4 at h
  obtain ⟨⟨hx, hb, hml, hown, hts⟩, hr, hlk, hA⟩ := id C
  refine lv_iload_n hx hb dX5_isEvenChange_4 rfl (lv_at hl 3 rfl) ?_
  refine lv_iconst (v := 4) hx hb dX5_isEvenChange_5 (by decide) ?_
  obtain ⟨h1, h2⟩ := h
  refine lv_icmp_ge (tgt := 64) hx hb dX5_isEvenChange_6 (by decide) (fun c1 => ?_) (fun c1 => ?_)
  · have h := h1 c1
    refine lv_iload_n hx hb dX5_isEvenChange_64 rfl (lv_at hl 2 rfl) ?_
    refine lv_iconst (v := 2) hx hb dX5_isEvenChange_65 (by decide) ?_
    refine lv_irem hx hb dX5_isEvenChange_66 (by decide) ?_
    obtain ⟨h1, h2⟩ := h
    refine lv_if_ne (tgt := 74) hx hb dX5_isEvenChange_67 (by decide) (fun c1 => ?_) (fun c1 => ?_)
    · have h := h1 c1
      refine lv_iconst (v := 0) hx hb dX5_isEvenChange_74 (by decide) ?_
      exact M_isEvenChange_a75 C hT4 hT14 h (lv_sub hl [0] rfl) w
    · have h := h2 c1
      refine lv_iconst (v := 1) hx hb dX5_isEvenChange_70 (by decide) ?_
      refine lv_goto (tgt := 75) hx hb dX5_isEvenChange_71 (by decide) ?_
      exact M_isEvenChange_a75 C hT4 hT14 h (lv_sub hl [0] rfl) w
  · have h := h2 c1
    refine lv_iload_n hx hb dX5_isEvenChange_9 rfl (lv_at hl 3 rfl) ?_
    refine lv_iconst (v := 1) hx hb dX5_isEvenChange_10 (by decide) ?_
    refine lv_iadd hx hb dX5_isEvenChange_11 ?_
    refine lv_istore (lv' := [(4, .int _), (0, .ref _), (1, .int _), (2, .int _), (3, .int _)]) hx hb dX5_isEvenChange_12 hl (by decide) rfl (fun ls hl => ?_)
    exact hT14 _ _ _ _ _ h _ _ _ (lv_sub hl [1, 2, 3, 4, 0] rfl) w
def M_isEvenChange_w0 (post : Int32 → MS → Prop) (T4 : Int32 → Int32 → Int32 → MS → Prop) (T14 : Int32 → Int32 → Int32 → Int32 → MS → Prop) (x1 : Int32) (S : MS) : Prop :=
  T4 x1 (0 : Int32) (0 : Int32) S
set_option maxHeartbeats 4000000 in
set_option maxRecDepth 100000 in
theorem M_isEvenChange_a0 {p : Program} {l : Launch} {e : Env} {s : State} {m : MethodId} {args : Array Value} {below : List Frame} {meth : Method} {c : Code} {D : va_G} {dA : Nat → ClassId} {o : Nat → Nat} {A : Nat → Prop} {post : Int32 → MS → Prop} {T4 : Int32 → Int32 → Int32 → MS → Prop} {T14 : Int32 → Int32 → Int32 → Int32 → MS → Prop} (C : mC p m c cX5_isEvenChange 5 s args meth (Option.some Jvm.ClassFile.FieldType.boolean) A) (hT4 : ∀ (x1 : Int32) (x2 : Int32) (x3 : Int32) (S : MS), T4 x1 x2 x3 S → ∀ (H : Heap) (locs : List Loc) (ls : Array Slot), lv_has ls 5 [(0, .ref (o 0)), (1, .int x1), (2, .int x2), (3, .int x3)] → mw D dA o A s S H locs → W p l e rM_isEvenChange s m args below meth c H locs 0 0 (mQi below args s D dA o A post) (F0 m 4 ls [])) (hT14 : ∀ (x1 : Int32) (x2 : Int32) (x3 : Int32) (x4 : Int32) (S : MS), T14 x1 x2 x3 x4 S → ∀ (H : Heap) (locs : List Loc) (ls : Array Slot), lv_has ls 5 [(0, .ref (o 0)), (1, .int x1), (2, .int x2), (3, .int x3), (4, .int x4)] → mw D dA o A s S H locs → W p l e rM_isEvenChange s m args below meth c H locs 0 0 (mQi below args s D dA o A post) (F0 m 14 ls [])) {x1 : Int32} {S : MS} (h : M_isEvenChange_w0 post T4 T14 x1 S) {H : Heap} {locs : List Loc} {ls : Array Slot} (hl : lv_has ls 5 [(0, .ref (o 0)), (1, .int x1)]) (w : mw D dA o A s S H locs) : W p l e rM_isEvenChange s m args below meth c H locs 0 0 (mQi below args s D dA o A post) (F0 m 0 ls []) := by
  unfold M_isEvenChange_w0 at h
  obtain ⟨⟨hx, hb, hml, hown, hts⟩, hr, hlk, hA⟩ := id C
  refine lv_iconst (v := 0) hx hb dX5_isEvenChange_0 (by decide) ?_
  refine lv_istore_n (lv' := [(2, .int _), (0, .ref _), (1, .int _)]) hx hb dX5_isEvenChange_1 rfl hl (by decide) rfl (fun ls hl => ?_)
  refine lv_iconst (v := 0) hx hb dX5_isEvenChange_2 (by decide) ?_
  refine lv_istore_n (lv' := [(3, .int _), (2, .int _), (0, .ref _), (1, .int _)]) hx hb dX5_isEvenChange_3 rfl hl (by decide) rfl (fun ls hl => ?_)
  exact hT4 _ _ _ _ h _ _ _ (lv_sub hl [2, 3, 1, 0] rfl) w
def M_isEvenChange_VC (x1 : Int32) (S : MS) (post : Int32 → MS → Prop) : Prop := ∀ (T4 : Int32 → Int32 → Int32 → MS → Prop) (T14 : Int32 → Int32 → Int32 → Int32 → MS → Prop), (∀ (x1 : Int32) (x2 : Int32) (x3 : Int32) (S : MS), M_isEvenChange_w4 post T4 T14 x1 x2 x3 S → T4 x1 x2 x3 S) → (∀ (x1 : Int32) (x2 : Int32) (x3 : Int32) (x4 : Int32) (S : MS), M_isEvenChange_w14 post T4 T14 x1 x2 x3 x4 S → T14 x1 x2 x3 x4 S) → M_isEvenChange_w0 post T4 T14 x1 S
theorem M_isEvenChange_ok {x1 : Int32} {S : MS} {post : Int32 → MS → Prop} (h : M_isEvenChange_VC x1 S post) : M_isEvenChange x1 S post := by
  intro l D dA o sz
  refine mr_start (fun A => va_Qi post (mB D dA o A) A) rfl (Nat.le_of_ble_eq_true rfl) (by decide) ?_
  intro p e s m args below meth c ls A C w hl
  have hl : lv_has ls 5 [(0, .ref (o 0)), (1, .int x1)] := hl
  have h := h (fun (x1 : Int32) (x2 : Int32) (x3 : Int32) S => ∀ (H : Heap) (locs : List Loc) (ls : Array Slot), lv_has ls 5 [(0, .ref (o 0)), (1, .int x1), (2, .int x2), (3, .int x3)] → mw D dA o A s S H locs → W p l e rM_isEvenChange s m args below meth c H locs 0 0 (mQi below args s D dA o A post) (F0 m 4 ls [])) (fun (x1 : Int32) (x2 : Int32) (x3 : Int32) (x4 : Int32) S => ∀ (H : Heap) (locs : List Loc) (ls : Array Slot), lv_has ls 5 [(0, .ref (o 0)), (1, .int x1), (2, .int x2), (3, .int x3), (4, .int x4)] → mw D dA o A s S H locs → W p l e rM_isEvenChange s m args below meth c H locs 0 0 (mQi below args s D dA o A post) (F0 m 14 ls [])) (fun _ _ _ S h H locs ls hl w => M_isEvenChange_a4 C (fun _ _ _ _ h => h) (fun _ _ _ _ _ h => h) h hl w) (fun _ _ _ _ S h H locs ls hl w => M_isEvenChange_a14 C (fun _ _ _ _ h => h) (fun _ _ _ _ _ h => h) h hl w)
  exact M_isEvenChange_a0 C (fun _ _ _ _ h => h) (fun _ _ _ _ _ h => h) h (lv_sub hl [0, 1] rfl) w

/-! isEven()Z -/
def M_isEven_w81 (post : Int32 → MS → Prop) (T2 : Int32 → MS → Prop) (T12 : Int32 → Int32 → Int32 → MS → Prop) (x1 : Int32) (x2 : Int32) (x3 : Int32) (S : MS) : Prop :=
  T12 x1 x2 (x3 + (1 : Int32)) S
set_option maxHeartbeats 4000000 in
set_option maxRecDepth 100000 in
theorem M_isEven_a81 {p : Program} {l : Launch} {e : Env} {s : State} {m : MethodId} {args : Array Value} {below : List Frame} {meth : Method} {c : Code} {D : va_G} {dA : Nat → ClassId} {o : Nat → Nat} {A : Nat → Prop} {post : Int32 → MS → Prop} {T2 : Int32 → MS → Prop} {T12 : Int32 → Int32 → Int32 → MS → Prop} (C : mC p m c cX5_isEven 5 s args meth (Option.some Jvm.ClassFile.FieldType.boolean) A) (hT2 : ∀ (x1 : Int32) (S : MS), T2 x1 S → ∀ (H : Heap) (locs : List Loc) (ls : Array Slot), lv_has ls 5 [(0, .ref (o 0)), (1, .int x1)] → mw D dA o A s S H locs → W p l e rM_isEven s m args below meth c H locs 0 0 (mQi below args s D dA o A post) (F0 m 2 ls [])) (hT12 : ∀ (x1 : Int32) (x2 : Int32) (x3 : Int32) (S : MS), T12 x1 x2 x3 S → ∀ (H : Heap) (locs : List Loc) (ls : Array Slot), lv_has ls 5 [(0, .ref (o 0)), (1, .int x1), (2, .int x2), (3, .int x3)] → mw D dA o A s S H locs → W p l e rM_isEven s m args below meth c H locs 0 0 (mQi below args s D dA o A post) (F0 m 12 ls [])) {x1 : Int32} {x2 : Int32} {x3 : Int32} {S : MS} (h : M_isEven_w81 post T2 T12 x1 x2 x3 S) {H : Heap} {locs : List Loc} {ls : Array Slot} (hl : lv_has ls 5 [(0, .ref (o 0)), (1, .int x1), (2, .int x2), (3, .int x3)]) (w : mw D dA o A s S H locs) : W p l e rM_isEven s m args below meth c H locs 0 0 (mQi below args s D dA o A post) (F0 m 81 ls []) := by
  unfold M_isEven_w81 at h
  obtain ⟨⟨hx, hb, hml, hown, hts⟩, hr, hlk, hA⟩ := id C
  refine lv_iinc (v := _ + (1 : Int32)) (lv' := [(3, .int _), (0, .ref _), (1, .int _), (2, .int _)]) hx hb dX5_isEven_81 hl (k := 3) rfl rfl (by decide) rfl (fun ls hl => ?_)
  refine lv_goto (tgt := 12) hx hb dX5_isEven_84 (by decide) ?_
  exact hT12 _ _ _ _ h _ _ _ (lv_sub hl [1, 2, 3, 0] rfl) w
def M_isEven_w80 (post : Int32 → MS → Prop) (T2 : Int32 → MS → Prop) (T12 : Int32 → Int32 → Int32 → MS → Prop) (v0 : Int32) (x1 : Int32) (x3 : Int32) (S : MS) : Prop :=
  M_isEven_w81 post T2 T12 x1 v0 x3 S
set_option maxHeartbeats 4000000 in
set_option maxRecDepth 100000 in
theorem M_isEven_a80 {p : Program} {l : Launch} {e : Env} {s : State} {m : MethodId} {args : Array Value} {below : List Frame} {meth : Method} {c : Code} {D : va_G} {dA : Nat → ClassId} {o : Nat → Nat} {A : Nat → Prop} {post : Int32 → MS → Prop} {T2 : Int32 → MS → Prop} {T12 : Int32 → Int32 → Int32 → MS → Prop} (C : mC p m c cX5_isEven 5 s args meth (Option.some Jvm.ClassFile.FieldType.boolean) A) (hT2 : ∀ (x1 : Int32) (S : MS), T2 x1 S → ∀ (H : Heap) (locs : List Loc) (ls : Array Slot), lv_has ls 5 [(0, .ref (o 0)), (1, .int x1)] → mw D dA o A s S H locs → W p l e rM_isEven s m args below meth c H locs 0 0 (mQi below args s D dA o A post) (F0 m 2 ls [])) (hT12 : ∀ (x1 : Int32) (x2 : Int32) (x3 : Int32) (S : MS), T12 x1 x2 x3 S → ∀ (H : Heap) (locs : List Loc) (ls : Array Slot), lv_has ls 5 [(0, .ref (o 0)), (1, .int x1), (2, .int x2), (3, .int x3)] → mw D dA o A s S H locs → W p l e rM_isEven s m args below meth c H locs 0 0 (mQi below args s D dA o A post) (F0 m 12 ls [])) {v0 : Int32} {x1 : Int32} {x3 : Int32} {S : MS} (h : M_isEven_w80 post T2 T12 v0 x1 x3 S) {H : Heap} {locs : List Loc} {ls : Array Slot} (hl : lv_has ls 5 [(0, .ref (o 0)), (1, .int x1), (3, .int x3)]) (w : mw D dA o A s S H locs) : W p l e rM_isEven s m args below meth c H locs 0 0 (mQi below args s D dA o A post) (F0 m 80 ls [.int v0]) := by
  unfold M_isEven_w80 at h
  obtain ⟨⟨hx, hb, hml, hown, hts⟩, hr, hlk, hA⟩ := id C
  refine lv_istore_n (lv' := [(2, .int _), (0, .ref _), (1, .int _), (3, .int _)]) hx hb dX5_isEven_80 rfl hl (by decide) rfl (fun ls hl => ?_)
  exact M_isEven_a81 C hT2 hT12 h (lv_sub hl [1, 2, 0, 3] rfl) w
def M_isEven_w79 (post : Int32 → MS → Prop) (T2 : Int32 → MS → Prop) (T12 : Int32 → Int32 → Int32 → MS → Prop) (x1 : Int32) (x3 : Int32) (S : MS) : Prop :=
  M_isEven_w80 post T2 T12 (0 : Int32) x1 x3 S
set_option maxHeartbeats 4000000 in
set_option maxRecDepth 100000 in
theorem M_isEven_a79 {p : Program} {l : Launch} {e : Env} {s : State} {m : MethodId} {args : Array Value} {below : List Frame} {meth : Method} {c : Code} {D : va_G} {dA : Nat → ClassId} {o : Nat → Nat} {A : Nat → Prop} {post : Int32 → MS → Prop} {T2 : Int32 → MS → Prop} {T12 : Int32 → Int32 → Int32 → MS → Prop} (C : mC p m c cX5_isEven 5 s args meth (Option.some Jvm.ClassFile.FieldType.boolean) A) (hT2 : ∀ (x1 : Int32) (S : MS), T2 x1 S → ∀ (H : Heap) (locs : List Loc) (ls : Array Slot), lv_has ls 5 [(0, .ref (o 0)), (1, .int x1)] → mw D dA o A s S H locs → W p l e rM_isEven s m args below meth c H locs 0 0 (mQi below args s D dA o A post) (F0 m 2 ls [])) (hT12 : ∀ (x1 : Int32) (x2 : Int32) (x3 : Int32) (S : MS), T12 x1 x2 x3 S → ∀ (H : Heap) (locs : List Loc) (ls : Array Slot), lv_has ls 5 [(0, .ref (o 0)), (1, .int x1), (2, .int x2), (3, .int x3)] → mw D dA o A s S H locs → W p l e rM_isEven s m args below meth c H locs 0 0 (mQi below args s D dA o A post) (F0 m 12 ls [])) {x1 : Int32} {x3 : Int32} {S : MS} (h : M_isEven_w79 post T2 T12 x1 x3 S) {H : Heap} {locs : List Loc} {ls : Array Slot} (hl : lv_has ls 5 [(0, .ref (o 0)), (1, .int x1), (3, .int x3)]) (w : mw D dA o A s S H locs) : W p l e rM_isEven s m args below meth c H locs 0 0 (mQi below args s D dA o A post) (F0 m 79 ls []) := by
  unfold M_isEven_w79 at h
  obtain ⟨⟨hx, hb, hml, hown, hts⟩, hr, hlk, hA⟩ := id C
  refine lv_iconst (v := 0) hx hb dX5_isEven_79 (by decide) ?_
  exact M_isEven_a80 C hT2 hT12 h (lv_sub hl [0, 1, 2] rfl) w
def M_isEven_w59 (post : Int32 → MS → Prop) (T2 : Int32 → MS → Prop) (T12 : Int32 → Int32 → Int32 → MS → Prop) (v0 : Int32) (x1 : Int32) (x2 : Int32) (x3 : Int32) (S : MS) : Prop :=
  ((x2 = 0 → M_isEven_w79 post T2 T12 x1 x3 S) ∧ (¬ x2 = 0 → M_isEvenChange x3 S (fun (r1 : Int32) (S1 : MS) => ((¬ v0 = r1 → M_isEven_w79 post T2 T12 x1 x3 S1) ∧ (v0 = r1 → M_isEven_w80 post T2 T12 (1 : Int32) x1 x3 S1)))))
set_option maxHeartbeats 4000000 in
set_option maxRecDepth 100000 in
theorem M_isEven_a59 {p : Program} {l : Launch} {e : Env} {s : State} {m : MethodId} {args : Array Value} {below : List Frame} {meth : Method} {c : Code} {D : va_G} {dA : Nat → ClassId} {o : Nat → Nat} {A : Nat → Prop} {post : Int32 → MS → Prop} {T2 : Int32 → MS → Prop} {T12 : Int32 → Int32 → Int32 → MS → Prop} (C : mC p m c cX5_isEven 5 s args meth (Option.some Jvm.ClassFile.FieldType.boolean) A) (hT2 : ∀ (x1 : Int32) (S : MS), T2 x1 S → ∀ (H : Heap) (locs : List Loc) (ls : Array Slot), lv_has ls 5 [(0, .ref (o 0)), (1, .int x1)] → mw D dA o A s S H locs → W p l e rM_isEven s m args below meth c H locs 0 0 (mQi below args s D dA o A post) (F0 m 2 ls [])) (hT12 : ∀ (x1 : Int32) (x2 : Int32) (x3 : Int32) (S : MS), T12 x1 x2 x3 S → ∀ (H : Heap) (locs : List Loc) (ls : Array Slot), lv_has ls 5 [(0, .ref (o 0)), (1, .int x1), (2, .int x2), (3, .int x3)] → mw D dA o A s S H locs → W p l e rM_isEven s m args below meth c H locs 0 0 (mQi below args s D dA o A post) (F0 m 12 ls [])) {v0 : Int32} {x1 : Int32} {x2 : Int32} {x3 : Int32} {S : MS} (h : M_isEven_w59 post T2 T12 v0 x1 x2 x3 S) {H : Heap} {locs : List Loc} {ls : Array Slot} (hl : lv_has ls 5 [(0, .ref (o 0)), (1, .int x1), (2, .int x2), (3, .int x3)]) (w : mw D dA o A s S H locs) : W p l e rM_isEven s m args below meth c H locs 0 0 (mQi below args s D dA o A post) (F0 m 59 ls [.int v0]) := by
  unfold M_isEven_w59 at h
  obtain ⟨⟨hx, hb, hml, hown, hts⟩, hr, hlk, hA⟩ := id C
  refine lv_istore (lv' := [(4, .int _), (0, .ref _), (1, .int _), (2, .int _), (3, .int _)]) hx hb dX5_isEven_59 hl (by decide) rfl (fun ls hl => ?_)
  refine lv_iload_n hx hb dX5_isEven_61 rfl (lv_at hl 3 rfl) ?_
  obtain ⟨h1, h2⟩ := h
  refine lv_if_eq (tgt := 79) hx hb dX5_isEven_62 (by decide) (fun c1 => ?_) (fun c1 => ?_)
  · have h := h1 c1
    exact M_isEven_a79 C hT2 hT12 h (lv_sub hl [1, 2, 4] rfl) w
  · have h := h2 c1
    refine lv_iload hx hb dX5_isEven_65 (lv_at hl 0 rfl) ?_
    refine lv_aload_n hx hb dX5_isEven_67 rfl (lv_at hl 1 rfl) ?_
    refine lv_iload_n hx hb dX5_isEven_68 rfl (lv_at hl 4 rfl) ?_
    refine mr_callVI (rest := [.int _]) C w h (lw_V q779 q781 qs54 q87 q782) M_isEvenChange_d rfl rfl ⟨Nat.le_of_ble_eq_true rfl, Nat.le_of_ble_eq_true rfl⟩ rfl hl.1 rfl (Nat.le_of_ble_eq_true rfl) ⟨Nat.zero_le _, Nat.zero_le _⟩ dX5_isEven_69 (fun r1 S1 H locs h w => ?_)
    obtain ⟨h1, h2⟩ := h
    refine lv_icmp_ne (tgt := 79) hx hb dX5_isEven_72 (by decide) (fun c1 => ?_) (fun c1 => ?_)
    · have h := h1 c1
      exact M_isEven_a79 C hT2 hT12 h (lv_sub hl [1, 2, 4] rfl) w
    · have h := h2 c1
      refine lv_iconst (v := 1) hx hb dX5_isEven_75 (by decide) ?_
      refine lv_goto (tgt := 80) hx hb dX5_isEven_76 (by decide) ?_
      exact M_isEven_a80 C hT2 hT12 h (lv_sub hl [1, 2, 4] rfl) w
def M_isEven_w12 (post : Int32 → MS → Prop) (T2 : Int32 → MS → Prop) (T12 : Int32 → Int32 → Int32 → MS → Prop) (x1 : Int32) (x2 : Int32) (x3 : Int32) (S : MS) : Prop :=
  ((((4 : Int32) * (gF S 0)) ≤ x3 → ((x2 = 0 → T2 (x1 + (1 : Int32)) S) ∧ (¬ x2 = 0 → post (1 : Int32) S))) ∧ (¬ ((4 : Int32) * (gF S 0)) ≤ x3 → (vp_in x3 12 ∧ (((gI S 1 (x3).toNatClampNeg) = (-1 : Int32) → M_isEven_w81 post T2 T12 x1 x2 x3 S) ∧ (¬ (gI S 1 (x3).toNatClampNeg) = (-1 : Int32) → (vp_in x3 12 ∧ ((((x1 >>> ((x3 / (4 : Int32)) &&& 31)) &&& (1 : Int32)) = ((x1 >>> (((gI S 1 (x3).toNatClampNeg) / (4 : Int32)) &&& 31)) &&& (1 : Int32)) → M_isEven_w59 post T2 T12 (0 : Int32) x1 x2 x3 S) ∧ (¬ ((x1 >>> ((x3 / (4 : Int32)) &&& 31)) &&& (1 : Int32)) = ((x1 >>> (((gI S 1 (x3).toNatClampNeg) / (4 : Int32)) &&& 31)) &&& (1 : Int32)) → M_isEven_w59 post T2 T12 (1 : Int32) x1 x2 x3 S))))))))
set_option maxHeartbeats 4000000 in
set_option maxRecDepth 100000 in
theorem M_isEven_a12 {p : Program} {l : Launch} {e : Env} {s : State} {m : MethodId} {args : Array Value} {below : List Frame} {meth : Method} {c : Code} {D : va_G} {dA : Nat → ClassId} {o : Nat → Nat} {A : Nat → Prop} {post : Int32 → MS → Prop} {T2 : Int32 → MS → Prop} {T12 : Int32 → Int32 → Int32 → MS → Prop} (C : mC p m c cX5_isEven 5 s args meth (Option.some Jvm.ClassFile.FieldType.boolean) A) (hT2 : ∀ (x1 : Int32) (S : MS), T2 x1 S → ∀ (H : Heap) (locs : List Loc) (ls : Array Slot), lv_has ls 5 [(0, .ref (o 0)), (1, .int x1)] → mw D dA o A s S H locs → W p l e rM_isEven s m args below meth c H locs 0 0 (mQi below args s D dA o A post) (F0 m 2 ls [])) (hT12 : ∀ (x1 : Int32) (x2 : Int32) (x3 : Int32) (S : MS), T12 x1 x2 x3 S → ∀ (H : Heap) (locs : List Loc) (ls : Array Slot), lv_has ls 5 [(0, .ref (o 0)), (1, .int x1), (2, .int x2), (3, .int x3)] → mw D dA o A s S H locs → W p l e rM_isEven s m args below meth c H locs 0 0 (mQi below args s D dA o A post) (F0 m 12 ls [])) {x1 : Int32} {x2 : Int32} {x3 : Int32} {S : MS} (h : M_isEven_w12 post T2 T12 x1 x2 x3 S) {H : Heap} {locs : List Loc} {ls : Array Slot} (hl : lv_has ls 5 [(0, .ref (o 0)), (1, .int x1), (2, .int x2), (3, .int x3)]) (w : mw D dA o A s S H locs) : W p l e rM_isEven s m args below meth c H locs 0 0 (mQi below args s D dA o A post) (F0 m 12 ls []) := by
  unfold M_isEven_w12 at h
  obtain ⟨⟨hx, hb, hml, hown, hts⟩, hr, hlk, hA⟩ := id C
  refine lv_iload_n hx hb dX5_isEven_12 rfl (lv_at hl 3 rfl) ?_
  refine lv_iconst (v := 4) hx hb dX5_isEven_13 (by decide) ?_
  refine lv_aload_n hx hb dX5_isEven_14 rfl (lv_at hl 0 rfl) ?_
  refine mr_get C w 0 (by decide) q577 rfl rfl dX5_isEven_15 ?_
  refine lv_imul hx hb dX5_isEven_18 ?_
  obtain ⟨h1, h2⟩ := h
  refine lv_icmp_ge (tgt := 87) hx hb dX5_isEven_19 (by decide) (fun c1 => ?_) (fun c1 => ?_)
  · have h := h1 c1
    refine lv_iload_n hx hb dX5_isEven_87 rfl (lv_at hl 2 rfl) ?_
    obtain ⟨h1, h2⟩ := h
    refine lv_if_eq (tgt := 93) hx hb dX5_isEven_88 (by decide) (fun c1 => ?_) (fun c1 => ?_)
    · have h := h1 c1
      refine lv_iinc (v := _ + (1 : Int32)) (lv' := [(1, .int _), (0, .ref _), (2, .int _), (3, .int _)]) hx hb dX5_isEven_93 hl (k := 1) rfl rfl (by decide) rfl (fun ls hl => ?_)
      refine lv_goto (tgt := 2) hx hb dX5_isEven_96 (by decide) ?_
      exact hT2 _ _ h _ _ _ (lv_sub hl [1, 0] rfl) w
    · have h := h2 c1
      refine lv_iconst (v := 1) hx hb dX5_isEven_91 (by decide) ?_
      exact mr_zret C w rfl h dX5_isEven_92
  · have h := h2 c1
    refine lv_aload_n hx hb dX5_isEven_22 rfl (lv_at hl 0 rfl) ?_
    refine mr_get C w 1 (by decide) q578 rfl rfl dX5_isEven_23 ?_
    refine lv_iload_n hx hb dX5_isEven_26 rfl (lv_at hl 3 rfl) ?_
    obtain ⟨hi, h⟩ := h
    refine mr_iald C w 1 0 rfl rfl hi dX5_isEven_27 ?_
    refine lv_iconst (v := -1) hx hb dX5_isEven_28 (by decide) ?_
    obtain ⟨h1, h2⟩ := h
    refine lv_icmp_eq (tgt := 81) hx hb dX5_isEven_29 (by decide) (fun c1 => ?_) (fun c1 => ?_)
    · have h := h1 c1
      exact M_isEven_a81 C hT2 hT12 h (lv_sub hl [0, 1, 2, 3] rfl) w
    · have h := h2 c1
      refine lv_iload_n hx hb dX5_isEven_32 rfl (lv_at hl 1 rfl) ?_
      refine lv_iload_n hx hb dX5_isEven_33 rfl (lv_at hl 3 rfl) ?_
      refine lv_iconst (v := 4) hx hb dX5_isEven_34 (by decide) ?_
      refine lv_idiv hx hb dX5_isEven_35 (by decide) ?_
      refine lv_ishr hx hb dX5_isEven_36 ?_
      refine lv_iconst (v := 1) hx hb dX5_isEven_37 (by decide) ?_
      refine lv_iand hx hb dX5_isEven_38 ?_
      refine lv_iload_n hx hb dX5_isEven_39 rfl (lv_at hl 1 rfl) ?_
      refine lv_aload_n hx hb dX5_isEven_40 rfl (lv_at hl 0 rfl) ?_
      refine mr_get C w 1 (by decide) q578 rfl rfl dX5_isEven_41 ?_
      refine lv_iload_n hx hb dX5_isEven_44 rfl (lv_at hl 3 rfl) ?_
      obtain ⟨hi, h⟩ := h
      refine mr_iald C w 1 0 rfl rfl hi dX5_isEven_45 ?_
      refine lv_iconst (v := 4) hx hb dX5_isEven_46 (by decide) ?_
      refine lv_idiv hx hb dX5_isEven_47 (by decide) ?_
      refine lv_ishr hx hb dX5_isEven_48 ?_
      refine lv_iconst (v := 1) hx hb dX5_isEven_49 (by decide) ?_
      refine lv_iand hx hb dX5_isEven_50 ?_
      obtain ⟨h1, h2⟩ := h
      refine lv_icmp_eq (tgt := 58) hx hb dX5_isEven_51 (by decide) (fun c1 => ?_) (fun c1 => ?_)
      · have h := h1 c1
        refine lv_iconst (v := 0) hx hb dX5_isEven_58 (by decide) ?_
        exact M_isEven_a59 C hT2 hT12 h (lv_sub hl [0, 1, 2, 3] rfl) w
      · have h := h2 c1
        refine lv_iconst (v := 1) hx hb dX5_isEven_54 (by decide) ?_
        refine lv_goto (tgt := 59) hx hb dX5_isEven_55 (by decide) ?_
        exact M_isEven_a59 C hT2 hT12 h (lv_sub hl [0, 1, 2, 3] rfl) w
def M_isEven_w2 (post : Int32 → MS → Prop) (T2 : Int32 → MS → Prop) (T12 : Int32 → Int32 → Int32 → MS → Prop) (x1 : Int32) (S : MS) : Prop :=
  (((8 : Int32) ≤ x1 → post (0 : Int32) S) ∧ (¬ (8 : Int32) ≤ x1 → T12 x1 (1 : Int32) (0 : Int32) S))
set_option maxHeartbeats 4000000 in
set_option maxRecDepth 100000 in
theorem M_isEven_a2 {p : Program} {l : Launch} {e : Env} {s : State} {m : MethodId} {args : Array Value} {below : List Frame} {meth : Method} {c : Code} {D : va_G} {dA : Nat → ClassId} {o : Nat → Nat} {A : Nat → Prop} {post : Int32 → MS → Prop} {T2 : Int32 → MS → Prop} {T12 : Int32 → Int32 → Int32 → MS → Prop} (C : mC p m c cX5_isEven 5 s args meth (Option.some Jvm.ClassFile.FieldType.boolean) A) (hT2 : ∀ (x1 : Int32) (S : MS), T2 x1 S → ∀ (H : Heap) (locs : List Loc) (ls : Array Slot), lv_has ls 5 [(0, .ref (o 0)), (1, .int x1)] → mw D dA o A s S H locs → W p l e rM_isEven s m args below meth c H locs 0 0 (mQi below args s D dA o A post) (F0 m 2 ls [])) (hT12 : ∀ (x1 : Int32) (x2 : Int32) (x3 : Int32) (S : MS), T12 x1 x2 x3 S → ∀ (H : Heap) (locs : List Loc) (ls : Array Slot), lv_has ls 5 [(0, .ref (o 0)), (1, .int x1), (2, .int x2), (3, .int x3)] → mw D dA o A s S H locs → W p l e rM_isEven s m args below meth c H locs 0 0 (mQi below args s D dA o A post) (F0 m 12 ls [])) {x1 : Int32} {S : MS} (h : M_isEven_w2 post T2 T12 x1 S) {H : Heap} {locs : List Loc} {ls : Array Slot} (hl : lv_has ls 5 [(0, .ref (o 0)), (1, .int x1)]) (w : mw D dA o A s S H locs) : W p l e rM_isEven s m args below meth c H locs 0 0 (mQi below args s D dA o A post) (F0 m 2 ls []) := by
  unfold M_isEven_w2 at h
  obtain ⟨⟨hx, hb, hml, hown, hts⟩, hr, hlk, hA⟩ := id C
  refine lv_iload_n hx hb dX5_isEven_2 rfl (lv_at hl 1 rfl) ?_
  refine lv_bipush (v := 8) hx hb dX5_isEven_3 (by decide) ?_
  obtain ⟨h1, h2⟩ := h
  refine lv_icmp_ge (tgt := 99) hx hb dX5_isEven_5 (by decide) (fun c1 => ?_) (fun c1 => ?_)
  · have h := h1 c1
    refine lv_iconst (v := 0) hx hb dX5_isEven_99 (by decide) ?_
    exact mr_zret C w rfl h dX5_isEven_100
  · have h := h2 c1
    refine lv_iconst (v := 1) hx hb dX5_isEven_8 (by decide) ?_
    refine lv_istore_n (lv' := [(2, .int _), (0, .ref _), (1, .int _)]) hx hb dX5_isEven_9 rfl hl (by decide) rfl (fun ls hl => ?_)
    refine lv_iconst (v := 0) hx hb dX5_isEven_10 (by decide) ?_
    refine lv_istore_n (lv' := [(3, .int _), (2, .int _), (0, .ref _), (1, .int _)]) hx hb dX5_isEven_11 rfl hl (by decide) rfl (fun ls hl => ?_)
    exact hT12 _ _ _ _ h _ _ _ (lv_sub hl [2, 3, 1, 0] rfl) w
def M_isEven_w0 (post : Int32 → MS → Prop) (T2 : Int32 → MS → Prop) (T12 : Int32 → Int32 → Int32 → MS → Prop) (S : MS) : Prop :=
  T2 (0 : Int32) S
set_option maxHeartbeats 4000000 in
set_option maxRecDepth 100000 in
theorem M_isEven_a0 {p : Program} {l : Launch} {e : Env} {s : State} {m : MethodId} {args : Array Value} {below : List Frame} {meth : Method} {c : Code} {D : va_G} {dA : Nat → ClassId} {o : Nat → Nat} {A : Nat → Prop} {post : Int32 → MS → Prop} {T2 : Int32 → MS → Prop} {T12 : Int32 → Int32 → Int32 → MS → Prop} (C : mC p m c cX5_isEven 5 s args meth (Option.some Jvm.ClassFile.FieldType.boolean) A) (hT2 : ∀ (x1 : Int32) (S : MS), T2 x1 S → ∀ (H : Heap) (locs : List Loc) (ls : Array Slot), lv_has ls 5 [(0, .ref (o 0)), (1, .int x1)] → mw D dA o A s S H locs → W p l e rM_isEven s m args below meth c H locs 0 0 (mQi below args s D dA o A post) (F0 m 2 ls [])) (hT12 : ∀ (x1 : Int32) (x2 : Int32) (x3 : Int32) (S : MS), T12 x1 x2 x3 S → ∀ (H : Heap) (locs : List Loc) (ls : Array Slot), lv_has ls 5 [(0, .ref (o 0)), (1, .int x1), (2, .int x2), (3, .int x3)] → mw D dA o A s S H locs → W p l e rM_isEven s m args below meth c H locs 0 0 (mQi below args s D dA o A post) (F0 m 12 ls [])) {S : MS} (h : M_isEven_w0 post T2 T12 S) {H : Heap} {locs : List Loc} {ls : Array Slot} (hl : lv_has ls 5 [(0, .ref (o 0))]) (w : mw D dA o A s S H locs) : W p l e rM_isEven s m args below meth c H locs 0 0 (mQi below args s D dA o A post) (F0 m 0 ls []) := by
  unfold M_isEven_w0 at h
  obtain ⟨⟨hx, hb, hml, hown, hts⟩, hr, hlk, hA⟩ := id C
  refine lv_iconst (v := 0) hx hb dX5_isEven_0 (by decide) ?_
  refine lv_istore_n (lv' := [(1, .int _), (0, .ref _)]) hx hb dX5_isEven_1 rfl hl (by decide) rfl (fun ls hl => ?_)
  exact hT2 _ _ h _ _ _ (lv_sub hl [1, 0] rfl) w
def M_isEven_VC (S : MS) (post : Int32 → MS → Prop) : Prop := ∀ (T2 : Int32 → MS → Prop) (T12 : Int32 → Int32 → Int32 → MS → Prop), (∀ (x1 : Int32) (S : MS), M_isEven_w2 post T2 T12 x1 S → T2 x1 S) → (∀ (x1 : Int32) (x2 : Int32) (x3 : Int32) (S : MS), M_isEven_w12 post T2 T12 x1 x2 x3 S → T12 x1 x2 x3 S) → M_isEven_w0 post T2 T12 S
theorem M_isEven_ok {S : MS} {post : Int32 → MS → Prop} (h : M_isEven_VC S post) : M_isEven S post := by
  intro l D dA o sz
  refine mr_start (fun A => va_Qi post (mB D dA o A) A) rfl (Nat.le_of_ble_eq_true rfl) (by decide) ?_
  intro p e s m args below meth c ls A C w hl
  have hl : lv_has ls 5 [(0, .ref (o 0))] := hl
  have h := h (fun (x1 : Int32) S => ∀ (H : Heap) (locs : List Loc) (ls : Array Slot), lv_has ls 5 [(0, .ref (o 0)), (1, .int x1)] → mw D dA o A s S H locs → W p l e rM_isEven s m args below meth c H locs 0 0 (mQi below args s D dA o A post) (F0 m 2 ls [])) (fun (x1 : Int32) (x2 : Int32) (x3 : Int32) S => ∀ (H : Heap) (locs : List Loc) (ls : Array Slot), lv_has ls 5 [(0, .ref (o 0)), (1, .int x1), (2, .int x2), (3, .int x3)] → mw D dA o A s S H locs → W p l e rM_isEven s m args below meth c H locs 0 0 (mQi below args s D dA o A post) (F0 m 12 ls [])) (fun _ S h H locs ls hl w => M_isEven_a2 C (fun _ _ h => h) (fun _ _ _ _ h => h) h hl w) (fun _ _ _ S h H locs ls hl w => M_isEven_a12 C (fun _ _ h => h) (fun _ _ _ _ h => h) h hl w)
  exact M_isEven_a0 C (fun _ _ h => h) (fun _ _ _ _ h => h) h (lv_sub hl [0] rfl) w
