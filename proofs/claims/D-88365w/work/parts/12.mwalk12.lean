/-! meets(II)Z -/
def M_meets_w59 (post : Int32 → MS → Prop) (v0 : Int32) (S : MS) : Prop :=
  (zok v0 ∧ post v0 S)
set_option maxHeartbeats 4000000 in
set_option maxRecDepth 100000 in
theorem M_meets_a59 {p : Program} {l : Launch} {e : Env} {s : State} {m : MethodId} {args : Array Value} {below : List Frame} {meth : Method} {c : Code} {D : va_G} {dA : Nat → ClassId} {o : Nat → Nat} {A : Nat → Prop} {post : Int32 → MS → Prop} (C : mC p m c cX5_meets 3 s args meth (Option.some Jvm.ClassFile.FieldType.boolean) A) {v0 : Int32} {S : MS} (h : M_meets_w59 post v0 S) {H : Heap} {locs : List Loc} {ls : Array Slot} (hl : lv_has ls 3 [(0, .ref (o 0))]) (w : mw D dA o A s S H locs) : W p l e rM_meets s m args below meth c H locs 0 0 (mQi below args s D dA o A post) (F0 m 59 ls [.int v0]) := by
  unfold M_meets_w59 at h
  obtain ⟨⟨hx, hb, hml, hown, hts⟩, hr, hlk, hA⟩ := id C
  exact mr_zret C w (zok_n h.1) h.2 dX5_meets_59
def M_meets_w25 (post : Int32 → MS → Prop) (S : MS) : Prop :=
  M_meets_w59 post (1 : Int32) S
set_option maxHeartbeats 4000000 in
set_option maxRecDepth 100000 in
theorem M_meets_a25 {p : Program} {l : Launch} {e : Env} {s : State} {m : MethodId} {args : Array Value} {below : List Frame} {meth : Method} {c : Code} {D : va_G} {dA : Nat → ClassId} {o : Nat → Nat} {A : Nat → Prop} {post : Int32 → MS → Prop} (C : mC p m c cX5_meets 3 s args meth (Option.some Jvm.ClassFile.FieldType.boolean) A) {S : MS} (h : M_meets_w25 post S) {H : Heap} {locs : List Loc} {ls : Array Slot} (hl : lv_has ls 3 [(0, .ref (o 0))]) (w : mw D dA o A s S H locs) : W p l e rM_meets s m args below meth c H locs 0 0 (mQi below args s D dA o A post) (F0 m 25 ls []) := by
  unfold M_meets_w25 at h
  obtain ⟨⟨hx, hb, hml, hown, hts⟩, hr, hlk, hA⟩ := id C
  refine lv_iconst (v := 1) hx hb dX5_meets_25 (by decide) ?_
  refine lv_goto (tgt := 59) hx hb dX5_meets_26 (by decide) ?_
  exact M_meets_a59 C h (lv_sub hl [0] rfl) w
def M_meets_w0 (post : Int32 → MS → Prop) (x1 : Int32) (x2 : Int32) (S : MS) : Prop :=
  (((4 : Int32) ≤ x1 → (vp_in x2 6 ∧ (vp_in x2 6 ∧ M_kindOf (gI S 4 (x2).toNatClampNeg) (gI S 5 (x2).toNatClampNeg) S (fun (r1 : Int32) (S1 : MS) => ((r1 = (x1 - (4 : Int32)) → M_meets_w59 post (0 : Int32) S1) ∧ (¬ r1 = (x1 - (4 : Int32)) → M_meets_w59 post (1 : Int32) S1)))))) ∧ (¬ (4 : Int32) ≤ x1 → (vp_in x2 6 ∧ (((gI S 4 (x2).toNatClampNeg) = x1 → M_meets_w25 post S) ∧ (¬ (gI S 4 (x2).toNatClampNeg) = x1 → (vp_in x2 6 ∧ ((¬ (gI S 5 (x2).toNatClampNeg) = x1 → M_meets_w59 post (0 : Int32) S) ∧ ((gI S 5 (x2).toNatClampNeg) = x1 → M_meets_w25 post S))))))))
set_option maxHeartbeats 4000000 in
set_option maxRecDepth 100000 in
theorem M_meets_a0 {p : Program} {l : Launch} {e : Env} {s : State} {m : MethodId} {args : Array Value} {below : List Frame} {meth : Method} {c : Code} {D : va_G} {dA : Nat → ClassId} {o : Nat → Nat} {A : Nat → Prop} {post : Int32 → MS → Prop} (C : mC p m c cX5_meets 3 s args meth (Option.some Jvm.ClassFile.FieldType.boolean) A) {x1 : Int32} {x2 : Int32} {S : MS} (h : M_meets_w0 post x1 x2 S) {H : Heap} {locs : List Loc} {ls : Array Slot} (hl : lv_has ls 3 [(0, .ref (o 0)), (1, .int x1), (2, .int x2)]) (w : mw D dA o A s S H locs) : W p l e rM_meets s m args below meth c H locs 0 0 (mQi below args s D dA o A post) (F0 m 0 ls []) := by
  unfold M_meets_w0 at h
  obtain ⟨⟨hx, hb, hml, hown, hts⟩, hr, hlk, hA⟩ := id C
  refine lv_iload_n hx hb dX5_meets_0 rfl (lv_at hl 1 rfl) ?_
  refine lv_iconst (v := 4) hx hb dX5_meets_1 (by decide) ?_
  obtain ⟨h1, h2⟩ := h
  refine lv_icmp_ge (tgt := 33) hx hb dX5_meets_2 (by decide) (fun c1 => ?_) (fun c1 => ?_)
  · have h := h1 c1
    refine lv_aload_n hx hb dX5_meets_33 rfl (lv_at hl 0 rfl) ?_
    refine mr_get C w 4 (by decide) q581 rfl rfl dX5_meets_34 ?_
    refine lv_iload_n hx hb dX5_meets_37 rfl (lv_at hl 2 rfl) ?_
    obtain ⟨hi, h⟩ := h
    refine mr_iald C w 4 3 rfl rfl hi dX5_meets_38 ?_
    refine lv_aload_n hx hb dX5_meets_39 rfl (lv_at hl 0 rfl) ?_
    refine mr_get C w 5 (by decide) q582 rfl rfl dX5_meets_40 ?_
    refine lv_iload_n hx hb dX5_meets_43 rfl (lv_at hl 2 rfl) ?_
    obtain ⟨hi, h⟩ := h
    refine mr_iald C w 5 4 rfl rfl hi dX5_meets_44 ?_
    refine mr_callSI (rest := []) C w h (lw_S q828 q829 q87 q830) M_kindOf_d rfl rfl ⟨Nat.le_of_ble_eq_true rfl, Nat.le_of_ble_eq_true rfl⟩ rfl hl.1 rfl (Nat.le_of_ble_eq_true rfl) ⟨Nat.zero_le _, Nat.zero_le _⟩ dX5_meets_45 (fun r1 S1 H locs h w => ?_)
    refine lv_iload_n hx hb dX5_meets_48 rfl (lv_at hl 1 rfl) ?_
    refine lv_iconst (v := 4) hx hb dX5_meets_49 (by decide) ?_
    refine lv_isub hx hb dX5_meets_50 ?_
    obtain ⟨h1, h2⟩ := h
    refine lv_icmp_eq (tgt := 58) hx hb dX5_meets_51 (by decide) (fun c1 => ?_) (fun c1 => ?_)
    · have h := h1 c1
      refine lv_iconst (v := 0) hx hb dX5_meets_58 (by decide) ?_
      exact M_meets_a59 C h (lv_sub hl [0] rfl) w
    · have h := h2 c1
      refine lv_iconst (v := 1) hx hb dX5_meets_54 (by decide) ?_
      refine lv_goto (tgt := 59) hx hb dX5_meets_55 (by decide) ?_
      exact M_meets_a59 C h (lv_sub hl [0] rfl) w
  · have h := h2 c1
    refine lv_aload_n hx hb dX5_meets_5 rfl (lv_at hl 0 rfl) ?_
    refine mr_get C w 4 (by decide) q581 rfl rfl dX5_meets_6 ?_
    refine lv_iload_n hx hb dX5_meets_9 rfl (lv_at hl 2 rfl) ?_
    obtain ⟨hi, h⟩ := h
    refine mr_iald C w 4 3 rfl rfl hi dX5_meets_10 ?_
    refine lv_iload_n hx hb dX5_meets_11 rfl (lv_at hl 1 rfl) ?_
    obtain ⟨h1, h2⟩ := h
    refine lv_icmp_eq (tgt := 25) hx hb dX5_meets_12 (by decide) (fun c1 => ?_) (fun c1 => ?_)
    · have h := h1 c1
      exact M_meets_a25 C h (lv_sub hl [0] rfl) w
    · have h := h2 c1
      refine lv_aload_n hx hb dX5_meets_15 rfl (lv_at hl 0 rfl) ?_
      refine mr_get C w 5 (by decide) q582 rfl rfl dX5_meets_16 ?_
      refine lv_iload_n hx hb dX5_meets_19 rfl (lv_at hl 2 rfl) ?_
      obtain ⟨hi, h⟩ := h
      refine mr_iald C w 5 4 rfl rfl hi dX5_meets_20 ?_
      refine lv_iload_n hx hb dX5_meets_21 rfl (lv_at hl 1 rfl) ?_
      obtain ⟨h1, h2⟩ := h
      refine lv_icmp_ne (tgt := 29) hx hb dX5_meets_22 (by decide) (fun c1 => ?_) (fun c1 => ?_)
      · have h := h1 c1
        refine lv_iconst (v := 0) hx hb dX5_meets_29 (by decide) ?_
        refine lv_goto (tgt := 59) hx hb dX5_meets_30 (by decide) ?_
        exact M_meets_a59 C h (lv_sub hl [0] rfl) w
      · have h := h2 c1
        exact M_meets_a25 C h (lv_sub hl [0] rfl) w
def M_meets_VC (x1 : Int32) (x2 : Int32) (S : MS) (post : Int32 → MS → Prop) : Prop := M_meets_w0 post x1 x2 S
theorem M_meets_ok {x1 : Int32} {x2 : Int32} {S : MS} {post : Int32 → MS → Prop} (h : M_meets_VC x1 x2 S post) : M_meets x1 x2 S post := by
  intro l D dA o sz
  refine mr_start (fun A => va_Qi post (mB D dA o A) A) rfl (Nat.le_of_ble_eq_true rfl) (by decide) ?_
  intro p e s m args below meth c ls A C w hl
  have hl : lv_has ls 3 [(0, .ref (o 0)), (1, .int x1), (2, .int x2)] := hl
  exact M_meets_a0 C h (lv_sub hl [0, 1, 2] rfl) w

/-! euler()I -/
def M_euler_w168 (post : Int32 → MS → Prop) (T18 : Int32 → Int32 → MS → Prop) (T31 : Int32 → Int32 → Int32 → MS → Prop) (T92 : Int32 → Int32 → MS → Prop) (T104 : Int32 → Int32 → Int32 → MS → Prop) (T168 : Int32 → Int32 → MS → Prop) (x1 : Int32) (x2 : Int32) (S : MS) : Prop :=
  ((((7 : Int32) * (gF S 0)) ≤ x2 → post x1 S) ∧ (¬ ((7 : Int32) * (gF S 0)) ≤ x2 → (vp_in x2 21 ∧ T168 (x1 + (gI S 3 (x2).toNatClampNeg)) (x2 + (1 : Int32)) S)))
set_option maxHeartbeats 4000000 in
set_option maxRecDepth 100000 in
theorem M_euler_a168 {p : Program} {l : Launch} {e : Env} {s : State} {m : MethodId} {args : Array Value} {below : List Frame} {meth : Method} {c : Code} {D : va_G} {dA : Nat → ClassId} {o : Nat → Nat} {A : Nat → Prop} {post : Int32 → MS → Prop} {T18 : Int32 → Int32 → MS → Prop} {T31 : Int32 → Int32 → Int32 → MS → Prop} {T92 : Int32 → Int32 → MS → Prop} {T104 : Int32 → Int32 → Int32 → MS → Prop} {T168 : Int32 → Int32 → MS → Prop} (C : mC p m c cX5_euler 4 s args meth (Option.some Jvm.ClassFile.FieldType.int) A) (hT18 : ∀ (x1 : Int32) (x2 : Int32) (S : MS), T18 x1 x2 S → ∀ (H : Heap) (locs : List Loc) (ls : Array Slot), lv_has ls 4 [(0, .ref (o 0)), (1, .int x1), (2, .int x2)] → mw D dA o A s S H locs → W p l e rM_euler s m args below meth c H locs 0 0 (mQi below args s D dA o A post) (F0 m 18 ls [])) (hT31 : ∀ (x1 : Int32) (x2 : Int32) (x3 : Int32) (S : MS), T31 x1 x2 x3 S → ∀ (H : Heap) (locs : List Loc) (ls : Array Slot), lv_has ls 4 [(0, .ref (o 0)), (1, .int x1), (2, .int x2), (3, .int x3)] → mw D dA o A s S H locs → W p l e rM_euler s m args below meth c H locs 0 0 (mQi below args s D dA o A post) (F0 m 31 ls [])) (hT92 : ∀ (x1 : Int32) (x2 : Int32) (S : MS), T92 x1 x2 S → ∀ (H : Heap) (locs : List Loc) (ls : Array Slot), lv_has ls 4 [(0, .ref (o 0)), (1, .int x1), (2, .int x2)] → mw D dA o A s S H locs → W p l e rM_euler s m args below meth c H locs 0 0 (mQi below args s D dA o A post) (F0 m 92 ls [])) (hT104 : ∀ (x1 : Int32) (x2 : Int32) (x3 : Int32) (S : MS), T104 x1 x2 x3 S → ∀ (H : Heap) (locs : List Loc) (ls : Array Slot), lv_has ls 4 [(0, .ref (o 0)), (1, .int x1), (2, .int x2), (3, .int x3)] → mw D dA o A s S H locs → W p l e rM_euler s m args below meth c H locs 0 0 (mQi below args s D dA o A post) (F0 m 104 ls [])) (hT168 : ∀ (x1 : Int32) (x2 : Int32) (S : MS), T168 x1 x2 S → ∀ (H : Heap) (locs : List Loc) (ls : Array Slot), lv_has ls 4 [(0, .ref (o 0)), (1, .int x1), (2, .int x2)] → mw D dA o A s S H locs → W p l e rM_euler s m args below meth c H locs 0 0 (mQi below args s D dA o A post) (F0 m 168 ls [])) {x1 : Int32} {x2 : Int32} {S : MS} (h : M_euler_w168 post T18 T31 T92 T104 T168 x1 x2 S) {H : Heap} {locs : List Loc} {ls : Array Slot} (hl : lv_has ls 4 [(0, .ref (o 0)), (1, .int x1), (2, .int x2)]) (w : mw D dA o A s S H locs) : W p l e rM_euler s m args below meth c H locs 0 0 (mQi below args s D dA o A post) (F0 m 168 ls []) := by
  unfold M_euler_w168 at h
  obtain ⟨⟨hx, hb, hml, hown, hts⟩, hr, hlk, hA⟩ := id C
  refine lv_iload_n hx hb dX5_euler_168 rfl (lv_at hl 2 rfl) ?_
  refine lv_bipush (v := 7) hx hb dX5_euler_169 (by decide) ?_
  refine lv_aload_n hx hb dX5_euler_171 rfl (lv_at hl 0 rfl) ?_
  refine mr_get C w 0 (by decide) q577 rfl rfl dX5_euler_172 ?_
  refine lv_imul hx hb dX5_euler_175 ?_
  obtain ⟨h1, h2⟩ := h
  refine lv_icmp_ge (tgt := 194) hx hb dX5_euler_176 (by decide) (fun c1 => ?_) (fun c1 => ?_)
  · have h := h1 c1
    refine lv_iload_n hx hb dX5_euler_194 rfl (lv_at hl 1 rfl) ?_
    exact mr_iret C w h dX5_euler_195
  · have h := h2 c1
    refine lv_iload_n hx hb dX5_euler_179 rfl (lv_at hl 1 rfl) ?_
    refine lv_aload_n hx hb dX5_euler_180 rfl (lv_at hl 0 rfl) ?_
    refine mr_get C w 3 (by decide) q580 rfl rfl dX5_euler_181 ?_
    refine lv_iload_n hx hb dX5_euler_184 rfl (lv_at hl 2 rfl) ?_
    obtain ⟨hi, h⟩ := h
    refine mr_iald C w 3 2 rfl rfl hi dX5_euler_185 ?_
    refine lv_iadd hx hb dX5_euler_186 ?_
    refine lv_istore_n (lv' := [(1, .int _), (0, .ref _), (2, .int _)]) hx hb dX5_euler_187 rfl hl (by decide) rfl (fun ls hl => ?_)
    refine lv_iinc (v := _ + (1 : Int32)) (lv' := [(2, .int _), (1, .int _), (0, .ref _)]) hx hb dX5_euler_188 hl (k := 2) rfl rfl (by decide) rfl (fun ls hl => ?_)
    refine lv_goto (tgt := 168) hx hb dX5_euler_191 (by decide) ?_
    exact hT168 _ _ _ h _ _ _ (lv_sub hl [2, 1, 0] rfl) w
def M_euler_w152 (post : Int32 → MS → Prop) (T18 : Int32 → Int32 → MS → Prop) (T31 : Int32 → Int32 → Int32 → MS → Prop) (T92 : Int32 → Int32 → MS → Prop) (T104 : Int32 → Int32 → Int32 → MS → Prop) (T168 : Int32 → Int32 → MS → Prop) (v0 : Int32) (v1 : Int32) (x2 : Int32) (x3 : Int32) (S : MS) : Prop :=
  T104 (v1 - v0) x2 (x3 + (1 : Int32)) S
set_option maxHeartbeats 4000000 in
set_option maxRecDepth 100000 in
theorem M_euler_a152 {p : Program} {l : Launch} {e : Env} {s : State} {m : MethodId} {args : Array Value} {below : List Frame} {meth : Method} {c : Code} {D : va_G} {dA : Nat → ClassId} {o : Nat → Nat} {A : Nat → Prop} {post : Int32 → MS → Prop} {T18 : Int32 → Int32 → MS → Prop} {T31 : Int32 → Int32 → Int32 → MS → Prop} {T92 : Int32 → Int32 → MS → Prop} {T104 : Int32 → Int32 → Int32 → MS → Prop} {T168 : Int32 → Int32 → MS → Prop} (C : mC p m c cX5_euler 4 s args meth (Option.some Jvm.ClassFile.FieldType.int) A) (hT18 : ∀ (x1 : Int32) (x2 : Int32) (S : MS), T18 x1 x2 S → ∀ (H : Heap) (locs : List Loc) (ls : Array Slot), lv_has ls 4 [(0, .ref (o 0)), (1, .int x1), (2, .int x2)] → mw D dA o A s S H locs → W p l e rM_euler s m args below meth c H locs 0 0 (mQi below args s D dA o A post) (F0 m 18 ls [])) (hT31 : ∀ (x1 : Int32) (x2 : Int32) (x3 : Int32) (S : MS), T31 x1 x2 x3 S → ∀ (H : Heap) (locs : List Loc) (ls : Array Slot), lv_has ls 4 [(0, .ref (o 0)), (1, .int x1), (2, .int x2), (3, .int x3)] → mw D dA o A s S H locs → W p l e rM_euler s m args below meth c H locs 0 0 (mQi below args s D dA o A post) (F0 m 31 ls [])) (hT92 : ∀ (x1 : Int32) (x2 : Int32) (S : MS), T92 x1 x2 S → ∀ (H : Heap) (locs : List Loc) (ls : Array Slot), lv_has ls 4 [(0, .ref (o 0)), (1, .int x1), (2, .int x2)] → mw D dA o A s S H locs → W p l e rM_euler s m args below meth c H locs 0 0 (mQi below args s D dA o A post) (F0 m 92 ls [])) (hT104 : ∀ (x1 : Int32) (x2 : Int32) (x3 : Int32) (S : MS), T104 x1 x2 x3 S → ∀ (H : Heap) (locs : List Loc) (ls : Array Slot), lv_has ls 4 [(0, .ref (o 0)), (1, .int x1), (2, .int x2), (3, .int x3)] → mw D dA o A s S H locs → W p l e rM_euler s m args below meth c H locs 0 0 (mQi below args s D dA o A post) (F0 m 104 ls [])) (hT168 : ∀ (x1 : Int32) (x2 : Int32) (S : MS), T168 x1 x2 S → ∀ (H : Heap) (locs : List Loc) (ls : Array Slot), lv_has ls 4 [(0, .ref (o 0)), (1, .int x1), (2, .int x2)] → mw D dA o A s S H locs → W p l e rM_euler s m args below meth c H locs 0 0 (mQi below args s D dA o A post) (F0 m 168 ls [])) {v0 : Int32} {v1 : Int32} {x2 : Int32} {x3 : Int32} {S : MS} (h : M_euler_w152 post T18 T31 T92 T104 T168 v0 v1 x2 x3 S) {H : Heap} {locs : List Loc} {ls : Array Slot} (hl : lv_has ls 4 [(0, .ref (o 0)), (2, .int x2), (3, .int x3)]) (w : mw D dA o A s S H locs) : W p l e rM_euler s m args below meth c H locs 0 0 (mQi below args s D dA o A post) (F0 m 152 ls [.int v0, .int v1]) := by
  unfold M_euler_w152 at h
  obtain ⟨⟨hx, hb, hml, hown, hts⟩, hr, hlk, hA⟩ := id C
  refine lv_isub hx hb dX5_euler_152 ?_
  refine lv_istore_n (lv' := [(1, .int _), (0, .ref _), (2, .int _), (3, .int _)]) hx hb dX5_euler_153 rfl hl (by decide) rfl (fun ls hl => ?_)
  refine lv_iinc (v := _ + (1 : Int32)) (lv' := [(3, .int _), (1, .int _), (0, .ref _), (2, .int _)]) hx hb dX5_euler_154 hl (k := 3) rfl rfl (by decide) rfl (fun ls hl => ?_)
  refine lv_goto (tgt := 104) hx hb dX5_euler_157 (by decide) ?_
  exact hT104 _ _ _ _ h _ _ _ (lv_sub hl [2, 1, 3, 0] rfl) w
def M_euler_w151 (post : Int32 → MS → Prop) (T18 : Int32 → Int32 → MS → Prop) (T31 : Int32 → Int32 → Int32 → MS → Prop) (T92 : Int32 → Int32 → MS → Prop) (T104 : Int32 → Int32 → Int32 → MS → Prop) (T168 : Int32 → Int32 → MS → Prop) (v0 : Int32) (x2 : Int32) (x3 : Int32) (S : MS) : Prop :=
  M_euler_w152 post T18 T31 T92 T104 T168 (0 : Int32) v0 x2 x3 S
set_option maxHeartbeats 4000000 in
set_option maxRecDepth 100000 in
theorem M_euler_a151 {p : Program} {l : Launch} {e : Env} {s : State} {m : MethodId} {args : Array Value} {below : List Frame} {meth : Method} {c : Code} {D : va_G} {dA : Nat → ClassId} {o : Nat → Nat} {A : Nat → Prop} {post : Int32 → MS → Prop} {T18 : Int32 → Int32 → MS → Prop} {T31 : Int32 → Int32 → Int32 → MS → Prop} {T92 : Int32 → Int32 → MS → Prop} {T104 : Int32 → Int32 → Int32 → MS → Prop} {T168 : Int32 → Int32 → MS → Prop} (C : mC p m c cX5_euler 4 s args meth (Option.some Jvm.ClassFile.FieldType.int) A) (hT18 : ∀ (x1 : Int32) (x2 : Int32) (S : MS), T18 x1 x2 S → ∀ (H : Heap) (locs : List Loc) (ls : Array Slot), lv_has ls 4 [(0, .ref (o 0)), (1, .int x1), (2, .int x2)] → mw D dA o A s S H locs → W p l e rM_euler s m args below meth c H locs 0 0 (mQi below args s D dA o A post) (F0 m 18 ls [])) (hT31 : ∀ (x1 : Int32) (x2 : Int32) (x3 : Int32) (S : MS), T31 x1 x2 x3 S → ∀ (H : Heap) (locs : List Loc) (ls : Array Slot), lv_has ls 4 [(0, .ref (o 0)), (1, .int x1), (2, .int x2), (3, .int x3)] → mw D dA o A s S H locs → W p l e rM_euler s m args below meth c H locs 0 0 (mQi below args s D dA o A post) (F0 m 31 ls [])) (hT92 : ∀ (x1 : Int32) (x2 : Int32) (S : MS), T92 x1 x2 S → ∀ (H : Heap) (locs : List Loc) (ls : Array Slot), lv_has ls 4 [(0, .ref (o 0)), (1, .int x1), (2, .int x2)] → mw D dA o A s S H locs → W p l e rM_euler s m args below meth c H locs 0 0 (mQi below args s D dA o A post) (F0 m 92 ls [])) (hT104 : ∀ (x1 : Int32) (x2 : Int32) (x3 : Int32) (S : MS), T104 x1 x2 x3 S → ∀ (H : Heap) (locs : List Loc) (ls : Array Slot), lv_has ls 4 [(0, .ref (o 0)), (1, .int x1), (2, .int x2), (3, .int x3)] → mw D dA o A s S H locs → W p l e rM_euler s m args below meth c H locs 0 0 (mQi below args s D dA o A post) (F0 m 104 ls [])) (hT168 : ∀ (x1 : Int32) (x2 : Int32) (S : MS), T168 x1 x2 S → ∀ (H : Heap) (locs : List Loc) (ls : Array Slot), lv_has ls 4 [(0, .ref (o 0)), (1, .int x1), (2, .int x2)] → mw D dA o A s S H locs → W p l e rM_euler s m args below meth c H locs 0 0 (mQi below args s D dA o A post) (F0 m 168 ls [])) {v0 : Int32} {x2 : Int32} {x3 : Int32} {S : MS} (h : M_euler_w151 post T18 T31 T92 T104 T168 v0 x2 x3 S) {H : Heap} {locs : List Loc} {ls : Array Slot} (hl : lv_has ls 4 [(0, .ref (o 0)), (2, .int x2), (3, .int x3)]) (w : mw D dA o A s S H locs) : W p l e rM_euler s m args below meth c H locs 0 0 (mQi below args s D dA o A post) (F0 m 151 ls [.int v0]) := by
  unfold M_euler_w151 at h
  obtain ⟨⟨hx, hb, hml, hown, hts⟩, hr, hlk, hA⟩ := id C
  refine lv_iconst (v := 0) hx hb dX5_euler_151 (by decide) ?_
  exact M_euler_a152 C hT18 hT31 hT92 hT104 hT168 h (lv_sub hl [0, 1, 2] rfl) w
def M_euler_w137 (post : Int32 → MS → Prop) (T18 : Int32 → Int32 → MS → Prop) (T31 : Int32 → Int32 → Int32 → MS → Prop) (T92 : Int32 → Int32 → MS → Prop) (T104 : Int32 → Int32 → Int32 → MS → Prop) (T168 : Int32 → Int32 → MS → Prop) (v0 : Int32) (x2 : Int32) (x3 : Int32) (S : MS) : Prop :=
  M_arcs (x2 / (4 : Int32)) (x2 - x2 / (4 : Int32) * (4 : Int32)) x3 S (fun (r1 : Int32) (S1 : MS) => M_euler_w152 post T18 T31 T92 T104 T168 r1 v0 x2 x3 S1)
set_option maxHeartbeats 4000000 in
set_option maxRecDepth 100000 in
theorem M_euler_a137 {p : Program} {l : Launch} {e : Env} {s : State} {m : MethodId} {args : Array Value} {below : List Frame} {meth : Method} {c : Code} {D : va_G} {dA : Nat → ClassId} {o : Nat → Nat} {A : Nat → Prop} {post : Int32 → MS → Prop} {T18 : Int32 → Int32 → MS → Prop} {T31 : Int32 → Int32 → Int32 → MS → Prop} {T92 : Int32 → Int32 → MS → Prop} {T104 : Int32 → Int32 → Int32 → MS → Prop} {T168 : Int32 → Int32 → MS → Prop} (C : mC p m c cX5_euler 4 s args meth (Option.some Jvm.ClassFile.FieldType.int) A) (hT18 : ∀ (x1 : Int32) (x2 : Int32) (S : MS), T18 x1 x2 S → ∀ (H : Heap) (locs : List Loc) (ls : Array Slot), lv_has ls 4 [(0, .ref (o 0)), (1, .int x1), (2, .int x2)] → mw D dA o A s S H locs → W p l e rM_euler s m args below meth c H locs 0 0 (mQi below args s D dA o A post) (F0 m 18 ls [])) (hT31 : ∀ (x1 : Int32) (x2 : Int32) (x3 : Int32) (S : MS), T31 x1 x2 x3 S → ∀ (H : Heap) (locs : List Loc) (ls : Array Slot), lv_has ls 4 [(0, .ref (o 0)), (1, .int x1), (2, .int x2), (3, .int x3)] → mw D dA o A s S H locs → W p l e rM_euler s m args below meth c H locs 0 0 (mQi below args s D dA o A post) (F0 m 31 ls [])) (hT92 : ∀ (x1 : Int32) (x2 : Int32) (S : MS), T92 x1 x2 S → ∀ (H : Heap) (locs : List Loc) (ls : Array Slot), lv_has ls 4 [(0, .ref (o 0)), (1, .int x1), (2, .int x2)] → mw D dA o A s S H locs → W p l e rM_euler s m args below meth c H locs 0 0 (mQi below args s D dA o A post) (F0 m 92 ls [])) (hT104 : ∀ (x1 : Int32) (x2 : Int32) (x3 : Int32) (S : MS), T104 x1 x2 x3 S → ∀ (H : Heap) (locs : List Loc) (ls : Array Slot), lv_has ls 4 [(0, .ref (o 0)), (1, .int x1), (2, .int x2), (3, .int x3)] → mw D dA o A s S H locs → W p l e rM_euler s m args below meth c H locs 0 0 (mQi below args s D dA o A post) (F0 m 104 ls [])) (hT168 : ∀ (x1 : Int32) (x2 : Int32) (S : MS), T168 x1 x2 S → ∀ (H : Heap) (locs : List Loc) (ls : Array Slot), lv_has ls 4 [(0, .ref (o 0)), (1, .int x1), (2, .int x2)] → mw D dA o A s S H locs → W p l e rM_euler s m args below meth c H locs 0 0 (mQi below args s D dA o A post) (F0 m 168 ls [])) {v0 : Int32} {x2 : Int32} {x3 : Int32} {S : MS} (h : M_euler_w137 post T18 T31 T92 T104 T168 v0 x2 x3 S) {H : Heap} {locs : List Loc} {ls : Array Slot} (hl : lv_has ls 4 [(0, .ref (o 0)), (2, .int x2), (3, .int x3)]) (w : mw D dA o A s S H locs) : W p l e rM_euler s m args below meth c H locs 0 0 (mQi below args s D dA o A post) (F0 m 137 ls [.int v0]) := by
  unfold M_euler_w137 at h
  obtain ⟨⟨hx, hb, hml, hown, hts⟩, hr, hlk, hA⟩ := id C
  refine lv_aload_n hx hb dX5_euler_137 rfl (lv_at hl 0 rfl) ?_
  refine lv_iload_n hx hb dX5_euler_138 rfl (lv_at hl 1 rfl) ?_
  refine lv_iconst (v := 4) hx hb dX5_euler_139 (by decide) ?_
  refine lv_idiv hx hb dX5_euler_140 (by decide) ?_
  refine lv_iload_n hx hb dX5_euler_141 rfl (lv_at hl 1 rfl) ?_
  refine lv_iconst (v := 4) hx hb dX5_euler_142 (by decide) ?_
  refine lv_irem hx hb dX5_euler_143 (by decide) ?_
  refine lv_iload_n hx hb dX5_euler_144 rfl (lv_at hl 2 rfl) ?_
  refine mr_callVI (rest := [.int _]) C w h (lw_V q886 q888 qs72 q87 q889) M_arcs_d rfl rfl ⟨Nat.le_of_ble_eq_true rfl, Nat.le_of_ble_eq_true rfl⟩ rfl hl.1 rfl (Nat.le_of_ble_eq_true rfl) ⟨Nat.zero_le _, Nat.zero_le _⟩ dX5_euler_145 (fun r1 S1 H locs h w => ?_)
  refine lv_goto (tgt := 152) hx hb dX5_euler_148 (by decide) ?_
  exact M_euler_a152 C hT18 hT31 hT92 hT104 hT168 h (lv_sub hl [0, 1, 2] rfl) w
def M_euler_w104 (post : Int32 → MS → Prop) (T18 : Int32 → Int32 → MS → Prop) (T31 : Int32 → Int32 → Int32 → MS → Prop) (T92 : Int32 → Int32 → MS → Prop) (T104 : Int32 → Int32 → Int32 → MS → Prop) (T168 : Int32 → Int32 → MS → Prop) (x1 : Int32) (x2 : Int32) (x3 : Int32) (S : MS) : Prop :=
  (((4 : Int32) ≤ x3 → T92 x1 (x2 + (1 : Int32)) S) ∧ (¬ (4 : Int32) ≤ x3 → ((x3 = (x2 - x2 / (4 : Int32) * (4 : Int32)) → M_euler_w151 post T18 T31 T92 T104 T168 x1 x2 x3 S) ∧ (¬ x3 = (x2 - x2 / (4 : Int32) * (4 : Int32)) → (vp_in x2 12 ∧ (((gI S 1 (x2).toNatClampNeg) = (-1 : Int32) → M_euler_w137 post T18 T31 T92 T104 T168 x1 x2 x3 S) ∧ (¬ (gI S 1 (x2).toNatClampNeg) = (-1 : Int32) → (vp_in x2 12 ∧ (((gI S 1 (x2).toNatClampNeg) ≤ x2 → M_euler_w151 post T18 T31 T92 T104 T168 x1 x2 x3 S) ∧ (¬ (gI S 1 (x2).toNatClampNeg) ≤ x2 → M_euler_w137 post T18 T31 T92 T104 T168 x1 x2 x3 S))))))))))
set_option maxHeartbeats 4000000 in
set_option maxRecDepth 100000 in
theorem M_euler_a104 {p : Program} {l : Launch} {e : Env} {s : State} {m : MethodId} {args : Array Value} {below : List Frame} {meth : Method} {c : Code} {D : va_G} {dA : Nat → ClassId} {o : Nat → Nat} {A : Nat → Prop} {post : Int32 → MS → Prop} {T18 : Int32 → Int32 → MS → Prop} {T31 : Int32 → Int32 → Int32 → MS → Prop} {T92 : Int32 → Int32 → MS → Prop} {T104 : Int32 → Int32 → Int32 → MS → Prop} {T168 : Int32 → Int32 → MS → Prop} (C : mC p m c cX5_euler 4 s args meth (Option.some Jvm.ClassFile.FieldType.int) A) (hT18 : ∀ (x1 : Int32) (x2 : Int32) (S : MS), T18 x1 x2 S → ∀ (H : Heap) (locs : List Loc) (ls : Array Slot), lv_has ls 4 [(0, .ref (o 0)), (1, .int x1), (2, .int x2)] → mw D dA o A s S H locs → W p l e rM_euler s m args below meth c H locs 0 0 (mQi below args s D dA o A post) (F0 m 18 ls [])) (hT31 : ∀ (x1 : Int32) (x2 : Int32) (x3 : Int32) (S : MS), T31 x1 x2 x3 S → ∀ (H : Heap) (locs : List Loc) (ls : Array Slot), lv_has ls 4 [(0, .ref (o 0)), (1, .int x1), (2, .int x2), (3, .int x3)] → mw D dA o A s S H locs → W p l e rM_euler s m args below meth c H locs 0 0 (mQi below args s D dA o A post) (F0 m 31 ls [])) (hT92 : ∀ (x1 : Int32) (x2 : Int32) (S : MS), T92 x1 x2 S → ∀ (H : Heap) (locs : List Loc) (ls : Array Slot), lv_has ls 4 [(0, .ref (o 0)), (1, .int x1), (2, .int x2)] → mw D dA o A s S H locs → W p l e rM_euler s m args below meth c H locs 0 0 (mQi below args s D dA o A post) (F0 m 92 ls [])) (hT104 : ∀ (x1 : Int32) (x2 : Int32) (x3 : Int32) (S : MS), T104 x1 x2 x3 S → ∀ (H : Heap) (locs : List Loc) (ls : Array Slot), lv_has ls 4 [(0, .ref (o 0)), (1, .int x1), (2, .int x2), (3, .int x3)] → mw D dA o A s S H locs → W p l e rM_euler s m args below meth c H locs 0 0 (mQi below args s D dA o A post) (F0 m 104 ls [])) (hT168 : ∀ (x1 : Int32) (x2 : Int32) (S : MS), T168 x1 x2 S → ∀ (H : Heap) (locs : List Loc) (ls : Array Slot), lv_has ls 4 [(0, .ref (o 0)), (1, .int x1), (2, .int x2)] → mw D dA o A s S H locs → W p l e rM_euler s m args below meth c H locs 0 0 (mQi below args s D dA o A post) (F0 m 168 ls [])) {x1 : Int32} {x2 : Int32} {x3 : Int32} {S : MS} (h : M_euler_w104 post T18 T31 T92 T104 T168 x1 x2 x3 S) {H : Heap} {locs : List Loc} {ls : Array Slot} (hl : lv_has ls 4 [(0, .ref (o 0)), (1, .int x1), (2, .int x2), (3, .int x3)]) (w : mw D dA o A s S H locs) : W p l e rM_euler s m args below meth c H locs 0 0 (mQi below args s D dA o A post) (F0 m 104 ls []) := by
  unfold M_euler_w104 at h
  obtain ⟨⟨hx, hb, hml, hown, hts⟩, hr, hlk, hA⟩ := id C
  refine lv_iload_n hx hb dX5_euler_104 rfl (lv_at hl 3 rfl) ?_
  refine lv_iconst (v := 4) hx hb dX5_euler_105 (by decide) ?_
  obtain ⟨h1, h2⟩ := h
  refine lv_icmp_ge (tgt := 160) hx hb dX5_euler_106 (by decide) (fun c1 => ?_) (fun c1 => ?_)
  · have h := h1 c1
    refine lv_iinc (v := _ + (1 : Int32)) (lv' := [(2, .int _), (0, .ref _), (1, .int _), (3, .int _)]) hx hb dX5_euler_160 hl (k := 2) rfl rfl (by decide) rfl (fun ls hl => ?_)
    refine lv_goto (tgt := 92) hx hb dX5_euler_163 (by decide) ?_
    exact hT92 _ _ _ h _ _ _ (lv_sub hl [1, 2, 0] rfl) w
  · have h := h2 c1
    refine lv_iload_n hx hb dX5_euler_109 rfl (lv_at hl 1 rfl) ?_
    refine lv_iload_n hx hb dX5_euler_110 rfl (lv_at hl 3 rfl) ?_
    refine lv_iload_n hx hb dX5_euler_111 rfl (lv_at hl 2 rfl) ?_
    refine lv_iconst (v := 4) hx hb dX5_euler_112 (by decide) ?_
    refine lv_irem hx hb dX5_euler_113 (by decide) ?_
    obtain ⟨h1, h2⟩ := h
    refine lv_icmp_eq (tgt := 151) hx hb dX5_euler_114 (by decide) (fun c1 => ?_) (fun c1 => ?_)
    · have h := h1 c1
      exact M_euler_a151 C hT18 hT31 hT92 hT104 hT168 h (lv_sub hl [0, 2, 3] rfl) w
    · have h := h2 c1
      refine lv_aload_n hx hb dX5_euler_117 rfl (lv_at hl 0 rfl) ?_
      refine mr_get C w 1 (by decide) q578 rfl rfl dX5_euler_118 ?_
      refine lv_iload_n hx hb dX5_euler_121 rfl (lv_at hl 2 rfl) ?_
      obtain ⟨hi, h⟩ := h
      refine mr_iald C w 1 0 rfl rfl hi dX5_euler_122 ?_
      refine lv_iconst (v := -1) hx hb dX5_euler_123 (by decide) ?_
      obtain ⟨h1, h2⟩ := h
      refine lv_icmp_eq (tgt := 137) hx hb dX5_euler_124 (by decide) (fun c1 => ?_) (fun c1 => ?_)
      · have h := h1 c1
        exact M_euler_a137 C hT18 hT31 hT92 hT104 hT168 h (lv_sub hl [0, 2, 3] rfl) w
      · have h := h2 c1
        refine lv_iload_n hx hb dX5_euler_127 rfl (lv_at hl 2 rfl) ?_
        refine lv_aload_n hx hb dX5_euler_128 rfl (lv_at hl 0 rfl) ?_
        refine mr_get C w 1 (by decide) q578 rfl rfl dX5_euler_129 ?_
        refine lv_iload_n hx hb dX5_euler_132 rfl (lv_at hl 2 rfl) ?_
        obtain ⟨hi, h⟩ := h
        refine mr_iald C w 1 0 rfl rfl hi dX5_euler_133 ?_
        obtain ⟨h1, h2⟩ := h
        refine lv_icmp_ge (tgt := 151) hx hb dX5_euler_134 (by decide) (fun c1 => ?_) (fun c1 => ?_)
        · have h := h1 c1
          exact M_euler_a151 C hT18 hT31 hT92 hT104 hT168 h (lv_sub hl [0, 2, 3] rfl) w
        · have h := h2 c1
          exact M_euler_a137 C hT18 hT31 hT92 hT104 hT168 h (lv_sub hl [0, 2, 3] rfl) w
def M_euler_w92 (post : Int32 → MS → Prop) (T18 : Int32 → Int32 → MS → Prop) (T31 : Int32 → Int32 → Int32 → MS → Prop) (T92 : Int32 → Int32 → MS → Prop) (T104 : Int32 → Int32 → Int32 → MS → Prop) (T168 : Int32 → Int32 → MS → Prop) (x1 : Int32) (x2 : Int32) (S : MS) : Prop :=
  ((((4 : Int32) * (gF S 0)) ≤ x2 → T168 x1 (0 : Int32) S) ∧ (¬ ((4 : Int32) * (gF S 0)) ≤ x2 → T104 x1 x2 (0 : Int32) S))
set_option maxHeartbeats 4000000 in
set_option maxRecDepth 100000 in
theorem M_euler_a92 {p : Program} {l : Launch} {e : Env} {s : State} {m : MethodId} {args : Array Value} {below : List Frame} {meth : Method} {c : Code} {D : va_G} {dA : Nat → ClassId} {o : Nat → Nat} {A : Nat → Prop} {post : Int32 → MS → Prop} {T18 : Int32 → Int32 → MS → Prop} {T31 : Int32 → Int32 → Int32 → MS → Prop} {T92 : Int32 → Int32 → MS → Prop} {T104 : Int32 → Int32 → Int32 → MS → Prop} {T168 : Int32 → Int32 → MS → Prop} (C : mC p m c cX5_euler 4 s args meth (Option.some Jvm.ClassFile.FieldType.int) A) (hT18 : ∀ (x1 : Int32) (x2 : Int32) (S : MS), T18 x1 x2 S → ∀ (H : Heap) (locs : List Loc) (ls : Array Slot), lv_has ls 4 [(0, .ref (o 0)), (1, .int x1), (2, .int x2)] → mw D dA o A s S H locs → W p l e rM_euler s m args below meth c H locs 0 0 (mQi below args s D dA o A post) (F0 m 18 ls [])) (hT31 : ∀ (x1 : Int32) (x2 : Int32) (x3 : Int32) (S : MS), T31 x1 x2 x3 S → ∀ (H : Heap) (locs : List Loc) (ls : Array Slot), lv_has ls 4 [(0, .ref (o 0)), (1, .int x1), (2, .int x2), (3, .int x3)] → mw D dA o A s S H locs → W p l e rM_euler s m args below meth c H locs 0 0 (mQi below args s D dA o A post) (F0 m 31 ls [])) (hT92 : ∀ (x1 : Int32) (x2 : Int32) (S : MS), T92 x1 x2 S → ∀ (H : Heap) (locs : List Loc) (ls : Array Slot), lv_has ls 4 [(0, .ref (o 0)), (1, .int x1), (2, .int x2)] → mw D dA o A s S H locs → W p l e rM_euler s m args below meth c H locs 0 0 (mQi below args s D dA o A post) (F0 m 92 ls [])) (hT104 : ∀ (x1 : Int32) (x2 : Int32) (x3 : Int32) (S : MS), T104 x1 x2 x3 S → ∀ (H : Heap) (locs : List Loc) (ls : Array Slot), lv_has ls 4 [(0, .ref (o 0)), (1, .int x1), (2, .int x2), (3, .int x3)] → mw D dA o A s S H locs → W p l e rM_euler s m args below meth c H locs 0 0 (mQi below args s D dA o A post) (F0 m 104 ls [])) (hT168 : ∀ (x1 : Int32) (x2 : Int32) (S : MS), T168 x1 x2 S → ∀ (H : Heap) (locs : List Loc) (ls : Array Slot), lv_has ls 4 [(0, .ref (o 0)), (1, .int x1), (2, .int x2)] → mw D dA o A s S H locs → W p l e rM_euler s m args below meth c H locs 0 0 (mQi below args s D dA o A post) (F0 m 168 ls [])) {x1 : Int32} {x2 : Int32} {S : MS} (h : M_euler_w92 post T18 T31 T92 T104 T168 x1 x2 S) {H : Heap} {locs : List Loc} {ls : Array Slot} (hl : lv_has ls 4 [(0, .ref (o 0)), (1, .int x1), (2, .int x2)]) (w : mw D dA o A s S H locs) : W p l e rM_euler s m args below meth c H locs 0 0 (mQi below args s D dA o A post) (F0 m 92 ls []) := by
  unfold M_euler_w92 at h
  obtain ⟨⟨hx, hb, hml, hown, hts⟩, hr, hlk, hA⟩ := id C
  refine lv_iload_n hx hb dX5_euler_92 rfl (lv_at hl 2 rfl) ?_
  refine lv_iconst (v := 4) hx hb dX5_euler_93 (by decide) ?_
  refine lv_aload_n hx hb dX5_euler_94 rfl (lv_at hl 0 rfl) ?_
  refine mr_get C w 0 (by decide) q577 rfl rfl dX5_euler_95 ?_
  refine lv_imul hx hb dX5_euler_98 ?_
  obtain ⟨h1, h2⟩ := h
  refine lv_icmp_ge (tgt := 166) hx hb dX5_euler_99 (by decide) (fun c1 => ?_) (fun c1 => ?_)
  · have h := h1 c1
    refine lv_iconst (v := 0) hx hb dX5_euler_166 (by decide) ?_
    refine lv_istore_n (lv' := [(2, .int _), (0, .ref _), (1, .int _)]) hx hb dX5_euler_167 rfl hl (by decide) rfl (fun ls hl => ?_)
    exact hT168 _ _ _ h _ _ _ (lv_sub hl [1, 2, 0] rfl) w
  · have h := h2 c1
    refine lv_iconst (v := 0) hx hb dX5_euler_102 (by decide) ?_
    refine lv_istore_n (lv' := [(3, .int _), (0, .ref _), (1, .int _), (2, .int _)]) hx hb dX5_euler_103 rfl hl (by decide) rfl (fun ls hl => ?_)
    exact hT104 _ _ _ _ h _ _ _ (lv_sub hl [1, 2, 3, 0] rfl) w
def M_euler_w84 (post : Int32 → MS → Prop) (T18 : Int32 → Int32 → MS → Prop) (T31 : Int32 → Int32 → Int32 → MS → Prop) (T92 : Int32 → Int32 → MS → Prop) (T104 : Int32 → Int32 → Int32 → MS → Prop) (T168 : Int32 → Int32 → MS → Prop) (x1 : Int32) (x2 : Int32) (S : MS) : Prop :=
  T18 x1 (x2 + (1 : Int32)) S
set_option maxHeartbeats 4000000 in
set_option maxRecDepth 100000 in
theorem M_euler_a84 {p : Program} {l : Launch} {e : Env} {s : State} {m : MethodId} {args : Array Value} {below : List Frame} {meth : Method} {c : Code} {D : va_G} {dA : Nat → ClassId} {o : Nat → Nat} {A : Nat → Prop} {post : Int32 → MS → Prop} {T18 : Int32 → Int32 → MS → Prop} {T31 : Int32 → Int32 → Int32 → MS → Prop} {T92 : Int32 → Int32 → MS → Prop} {T104 : Int32 → Int32 → Int32 → MS → Prop} {T168 : Int32 → Int32 → MS → Prop} (C : mC p m c cX5_euler 4 s args meth (Option.some Jvm.ClassFile.FieldType.int) A) (hT18 : ∀ (x1 : Int32) (x2 : Int32) (S : MS), T18 x1 x2 S → ∀ (H : Heap) (locs : List Loc) (ls : Array Slot), lv_has ls 4 [(0, .ref (o 0)), (1, .int x1), (2, .int x2)] → mw D dA o A s S H locs → W p l e rM_euler s m args below meth c H locs 0 0 (mQi below args s D dA o A post) (F0 m 18 ls [])) (hT31 : ∀ (x1 : Int32) (x2 : Int32) (x3 : Int32) (S : MS), T31 x1 x2 x3 S → ∀ (H : Heap) (locs : List Loc) (ls : Array Slot), lv_has ls 4 [(0, .ref (o 0)), (1, .int x1), (2, .int x2), (3, .int x3)] → mw D dA o A s S H locs → W p l e rM_euler s m args below meth c H locs 0 0 (mQi below args s D dA o A post) (F0 m 31 ls [])) (hT92 : ∀ (x1 : Int32) (x2 : Int32) (S : MS), T92 x1 x2 S → ∀ (H : Heap) (locs : List Loc) (ls : Array Slot), lv_has ls 4 [(0, .ref (o 0)), (1, .int x1), (2, .int x2)] → mw D dA o A s S H locs → W p l e rM_euler s m args below meth c H locs 0 0 (mQi below args s D dA o A post) (F0 m 92 ls [])) (hT104 : ∀ (x1 : Int32) (x2 : Int32) (x3 : Int32) (S : MS), T104 x1 x2 x3 S → ∀ (H : Heap) (locs : List Loc) (ls : Array Slot), lv_has ls 4 [(0, .ref (o 0)), (1, .int x1), (2, .int x2), (3, .int x3)] → mw D dA o A s S H locs → W p l e rM_euler s m args below meth c H locs 0 0 (mQi below args s D dA o A post) (F0 m 104 ls [])) (hT168 : ∀ (x1 : Int32) (x2 : Int32) (S : MS), T168 x1 x2 S → ∀ (H : Heap) (locs : List Loc) (ls : Array Slot), lv_has ls 4 [(0, .ref (o 0)), (1, .int x1), (2, .int x2)] → mw D dA o A s S H locs → W p l e rM_euler s m args below meth c H locs 0 0 (mQi below args s D dA o A post) (F0 m 168 ls [])) {x1 : Int32} {x2 : Int32} {S : MS} (h : M_euler_w84 post T18 T31 T92 T104 T168 x1 x2 S) {H : Heap} {locs : List Loc} {ls : Array Slot} (hl : lv_has ls 4 [(0, .ref (o 0)), (1, .int x1), (2, .int x2)]) (w : mw D dA o A s S H locs) : W p l e rM_euler s m args below meth c H locs 0 0 (mQi below args s D dA o A post) (F0 m 84 ls []) := by
  unfold M_euler_w84 at h
  obtain ⟨⟨hx, hb, hml, hown, hts⟩, hr, hlk, hA⟩ := id C
  refine lv_iinc (v := _ + (1 : Int32)) (lv' := [(2, .int _), (0, .ref _), (1, .int _)]) hx hb dX5_euler_84 hl (k := 2) rfl rfl (by decide) rfl (fun ls hl => ?_)
  refine lv_goto (tgt := 18) hx hb dX5_euler_87 (by decide) ?_
  exact hT18 _ _ _ h _ _ _ (lv_sub hl [1, 2, 0] rfl) w
def M_euler_w76 (post : Int32 → MS → Prop) (T18 : Int32 → Int32 → MS → Prop) (T31 : Int32 → Int32 → Int32 → MS → Prop) (T92 : Int32 → Int32 → MS → Prop) (T104 : Int32 → Int32 → Int32 → MS → Prop) (T168 : Int32 → Int32 → MS → Prop) (v0 : Int32) (v1 : Int32) (x2 : Int32) (x3 : Int32) (S : MS) : Prop :=
  T31 (v1 + v0) x2 (x3 + (1 : Int32)) S
set_option maxHeartbeats 4000000 in
set_option maxRecDepth 100000 in
theorem M_euler_a76 {p : Program} {l : Launch} {e : Env} {s : State} {m : MethodId} {args : Array Value} {below : List Frame} {meth : Method} {c : Code} {D : va_G} {dA : Nat → ClassId} {o : Nat → Nat} {A : Nat → Prop} {post : Int32 → MS → Prop} {T18 : Int32 → Int32 → MS → Prop} {T31 : Int32 → Int32 → Int32 → MS → Prop} {T92 : Int32 → Int32 → MS → Prop} {T104 : Int32 → Int32 → Int32 → MS → Prop} {T168 : Int32 → Int32 → MS → Prop} (C : mC p m c cX5_euler 4 s args meth (Option.some Jvm.ClassFile.FieldType.int) A) (hT18 : ∀ (x1 : Int32) (x2 : Int32) (S : MS), T18 x1 x2 S → ∀ (H : Heap) (locs : List Loc) (ls : Array Slot), lv_has ls 4 [(0, .ref (o 0)), (1, .int x1), (2, .int x2)] → mw D dA o A s S H locs → W p l e rM_euler s m args below meth c H locs 0 0 (mQi below args s D dA o A post) (F0 m 18 ls [])) (hT31 : ∀ (x1 : Int32) (x2 : Int32) (x3 : Int32) (S : MS), T31 x1 x2 x3 S → ∀ (H : Heap) (locs : List Loc) (ls : Array Slot), lv_has ls 4 [(0, .ref (o 0)), (1, .int x1), (2, .int x2), (3, .int x3)] → mw D dA o A s S H locs → W p l e rM_euler s m args below meth c H locs 0 0 (mQi below args s D dA o A post) (F0 m 31 ls [])) (hT92 : ∀ (x1 : Int32) (x2 : Int32) (S : MS), T92 x1 x2 S → ∀ (H : Heap) (locs : List Loc) (ls : Array Slot), lv_has ls 4 [(0, .ref (o 0)), (1, .int x1), (2, .int x2)] → mw D dA o A s S H locs → W p l e rM_euler s m args below meth c H locs 0 0 (mQi below args s D dA o A post) (F0 m 92 ls [])) (hT104 : ∀ (x1 : Int32) (x2 : Int32) (x3 : Int32) (S : MS), T104 x1 x2 x3 S → ∀ (H : Heap) (locs : List Loc) (ls : Array Slot), lv_has ls 4 [(0, .ref (o 0)), (1, .int x1), (2, .int x2), (3, .int x3)] → mw D dA o A s S H locs → W p l e rM_euler s m args below meth c H locs 0 0 (mQi below args s D dA o A post) (F0 m 104 ls [])) (hT168 : ∀ (x1 : Int32) (x2 : Int32) (S : MS), T168 x1 x2 S → ∀ (H : Heap) (locs : List Loc) (ls : Array Slot), lv_has ls 4 [(0, .ref (o 0)), (1, .int x1), (2, .int x2)] → mw D dA o A s S H locs → W p l e rM_euler s m args below meth c H locs 0 0 (mQi below args s D dA o A post) (F0 m 168 ls [])) {v0 : Int32} {v1 : Int32} {x2 : Int32} {x3 : Int32} {S : MS} (h : M_euler_w76 post T18 T31 T92 T104 T168 v0 v1 x2 x3 S) {H : Heap} {locs : List Loc} {ls : Array Slot} (hl : lv_has ls 4 [(0, .ref (o 0)), (2, .int x2), (3, .int x3)]) (w : mw D dA o A s S H locs) : W p l e rM_euler s m args below meth c H locs 0 0 (mQi below args s D dA o A post) (F0 m 76 ls [.int v0, .int v1]) := by
  unfold M_euler_w76 at h
  obtain ⟨⟨hx, hb, hml, hown, hts⟩, hr, hlk, hA⟩ := id C
  refine lv_iadd hx hb dX5_euler_76 ?_
  refine lv_istore_n (lv' := [(1, .int _), (0, .ref _), (2, .int _), (3, .int _)]) hx hb dX5_euler_77 rfl hl (by decide) rfl (fun ls hl => ?_)
  refine lv_iinc (v := _ + (1 : Int32)) (lv' := [(3, .int _), (1, .int _), (0, .ref _), (2, .int _)]) hx hb dX5_euler_78 hl (k := 3) rfl rfl (by decide) rfl (fun ls hl => ?_)
  refine lv_goto (tgt := 31) hx hb dX5_euler_81 (by decide) ?_
  exact hT31 _ _ _ _ h _ _ _ (lv_sub hl [2, 1, 3, 0] rfl) w
def M_euler_w31 (post : Int32 → MS → Prop) (T18 : Int32 → Int32 → MS → Prop) (T31 : Int32 → Int32 → Int32 → MS → Prop) (T92 : Int32 → Int32 → MS → Prop) (T104 : Int32 → Int32 → Int32 → MS → Prop) (T168 : Int32 → Int32 → MS → Prop) (x1 : Int32) (x2 : Int32) (x3 : Int32) (S : MS) : Prop :=
  (((7 : Int32) ≤ x3 → M_euler_w84 post T18 T31 T92 T104 T168 x1 x2 S) ∧ (¬ (7 : Int32) ≤ x3 → M_isFirstEdge x2 S (fun (r1 : Int32) (S1 : MS) => ((r1 = 0 → M_euler_w84 post T18 T31 T92 T104 T168 x1 x2 S1) ∧ (¬ r1 = 0 → M_meets x3 (x2 - x2 / (6 : Int32) * (6 : Int32)) S1 (fun (r2 : Int32) (S2 : MS) => ((r2 = 0 → M_euler_w76 post T18 T31 T92 T104 T168 (0 : Int32) x1 x2 x3 S2) ∧ (¬ r2 = 0 → (vp_in (((7 : Int32) * (x2 / (6 : Int32))) + x3) 21 ∧ M_euler_w76 post T18 T31 T92 T104 T168 (gI S2 3 ((((7 : Int32) * (x2 / (6 : Int32))) + x3)).toNatClampNeg) x1 x2 x3 S2)))))))))
set_option maxHeartbeats 4000000 in
set_option maxRecDepth 100000 in
theorem M_euler_a31 {p : Program} {l : Launch} {e : Env} {s : State} {m : MethodId} {args : Array Value} {below : List Frame} {meth : Method} {c : Code} {D : va_G} {dA : Nat → ClassId} {o : Nat → Nat} {A : Nat → Prop} {post : Int32 → MS → Prop} {T18 : Int32 → Int32 → MS → Prop} {T31 : Int32 → Int32 → Int32 → MS → Prop} {T92 : Int32 → Int32 → MS → Prop} {T104 : Int32 → Int32 → Int32 → MS → Prop} {T168 : Int32 → Int32 → MS → Prop} (C : mC p m c cX5_euler 4 s args meth (Option.some Jvm.ClassFile.FieldType.int) A) (hT18 : ∀ (x1 : Int32) (x2 : Int32) (S : MS), T18 x1 x2 S → ∀ (H : Heap) (locs : List Loc) (ls : Array Slot), lv_has ls 4 [(0, .ref (o 0)), (1, .int x1), (2, .int x2)] → mw D dA o A s S H locs → W p l e rM_euler s m args below meth c H locs 0 0 (mQi below args s D dA o A post) (F0 m 18 ls [])) (hT31 : ∀ (x1 : Int32) (x2 : Int32) (x3 : Int32) (S : MS), T31 x1 x2 x3 S → ∀ (H : Heap) (locs : List Loc) (ls : Array Slot), lv_has ls 4 [(0, .ref (o 0)), (1, .int x1), (2, .int x2), (3, .int x3)] → mw D dA o A s S H locs → W p l e rM_euler s m args below meth c H locs 0 0 (mQi below args s D dA o A post) (F0 m 31 ls [])) (hT92 : ∀ (x1 : Int32) (x2 : Int32) (S : MS), T92 x1 x2 S → ∀ (H : Heap) (locs : List Loc) (ls : Array Slot), lv_has ls 4 [(0, .ref (o 0)), (1, .int x1), (2, .int x2)] → mw D dA o A s S H locs → W p l e rM_euler s m args below meth c H locs 0 0 (mQi below args s D dA o A post) (F0 m 92 ls [])) (hT104 : ∀ (x1 : Int32) (x2 : Int32) (x3 : Int32) (S : MS), T104 x1 x2 x3 S → ∀ (H : Heap) (locs : List Loc) (ls : Array Slot), lv_has ls 4 [(0, .ref (o 0)), (1, .int x1), (2, .int x2), (3, .int x3)] → mw D dA o A s S H locs → W p l e rM_euler s m args below meth c H locs 0 0 (mQi below args s D dA o A post) (F0 m 104 ls [])) (hT168 : ∀ (x1 : Int32) (x2 : Int32) (S : MS), T168 x1 x2 S → ∀ (H : Heap) (locs : List Loc) (ls : Array Slot), lv_has ls 4 [(0, .ref (o 0)), (1, .int x1), (2, .int x2)] → mw D dA o A s S H locs → W p l e rM_euler s m args below meth c H locs 0 0 (mQi below args s D dA o A post) (F0 m 168 ls [])) {x1 : Int32} {x2 : Int32} {x3 : Int32} {S : MS} (h : M_euler_w31 post T18 T31 T92 T104 T168 x1 x2 x3 S) {H : Heap} {locs : List Loc} {ls : Array Slot} (hl : lv_has ls 4 [(0, .ref (o 0)), (1, .int x1), (2, .int x2), (3, .int x3)]) (w : mw D dA o A s S H locs) : W p l e rM_euler s m args below meth c H locs 0 0 (mQi below args s D dA o A post) (F0 m 31 ls []) := by
  unfold M_euler_w31 at h
  obtain ⟨⟨hx, hb, hml, hown, hts⟩, hr, hlk, hA⟩ := id C
  refine lv_iload_n hx hb dX5_euler_31 rfl (lv_at hl 3 rfl) ?_
  refine lv_bipush (v := 7) hx hb dX5_euler_32 (by decide) ?_
  obtain ⟨h1, h2⟩ := h
  refine lv_icmp_ge (tgt := 84) hx hb dX5_euler_34 (by decide) (fun c1 => ?_) (fun c1 => ?_)
  · have h := h1 c1
    exact M_euler_a84 C hT18 hT31 hT92 hT104 hT168 h (lv_sub hl [0, 1, 2] rfl) w
  · have h := h2 c1
    refine lv_aload_n hx hb dX5_euler_37 rfl (lv_at hl 0 rfl) ?_
    refine lv_iload_n hx hb dX5_euler_38 rfl (lv_at hl 2 rfl) ?_
    refine mr_callVI (rest := []) C w h (lw_V q722 q724 qs43 q87 q725) M_isFirstEdge_d rfl rfl ⟨Nat.le_of_ble_eq_true rfl, Nat.le_of_ble_eq_true rfl⟩ rfl hl.1 rfl (Nat.le_of_ble_eq_true rfl) ⟨Nat.zero_le _, Nat.zero_le _⟩ dX5_euler_39 (fun r1 S1 H locs h w => ?_)
    obtain ⟨h1, h2⟩ := h
    refine lv_if_eq (tgt := 84) hx hb dX5_euler_42 (by decide) (fun c1 => ?_) (fun c1 => ?_)
    · have h := h1 c1
      exact M_euler_a84 C hT18 hT31 hT92 hT104 hT168 h (lv_sub hl [0, 1, 2] rfl) w
    · have h := h2 c1
      refine lv_iload_n hx hb dX5_euler_45 rfl (lv_at hl 1 rfl) ?_
      refine lv_aload_n hx hb dX5_euler_46 rfl (lv_at hl 0 rfl) ?_
      refine lv_iload_n hx hb dX5_euler_47 rfl (lv_at hl 3 rfl) ?_
      refine lv_iload_n hx hb dX5_euler_48 rfl (lv_at hl 2 rfl) ?_
      refine lv_bipush (v := 6) hx hb dX5_euler_49 (by decide) ?_
      refine lv_irem hx hb dX5_euler_51 (by decide) ?_
      refine mr_callVI (rest := [.int _]) C w h (lw_V q895 q897 qs73 q87 q898) M_meets_d rfl rfl ⟨Nat.le_of_ble_eq_true rfl, Nat.le_of_ble_eq_true rfl⟩ rfl hl.1 rfl (Nat.le_of_ble_eq_true rfl) ⟨Nat.zero_le _, Nat.zero_le _⟩ dX5_euler_52 (fun r2 S2 H locs h w => ?_)
      obtain ⟨h1, h2⟩ := h
      refine lv_if_eq (tgt := 75) hx hb dX5_euler_55 (by decide) (fun c1 => ?_) (fun c1 => ?_)
      · have h := h1 c1
        refine lv_iconst (v := 0) hx hb dX5_euler_75 (by decide) ?_
        exact M_euler_a76 C hT18 hT31 hT92 hT104 hT168 h (lv_sub hl [0, 2, 3] rfl) w
      · have h := h2 c1
        refine lv_aload_n hx hb dX5_euler_58 rfl (lv_at hl 0 rfl) ?_
        refine mr_get C w 3 (by decide) q580 rfl rfl dX5_euler_59 ?_
        refine lv_bipush (v := 7) hx hb dX5_euler_62 (by decide) ?_
        refine lv_iload_n hx hb dX5_euler_64 rfl (lv_at hl 2 rfl) ?_
        refine lv_bipush (v := 6) hx hb dX5_euler_65 (by decide) ?_
        refine lv_idiv hx hb dX5_euler_67 (by decide) ?_
        refine lv_imul hx hb dX5_euler_68 ?_
        refine lv_iload_n hx hb dX5_euler_69 rfl (lv_at hl 3 rfl) ?_
        refine lv_iadd hx hb dX5_euler_70 ?_
        obtain ⟨hi, h⟩ := h
        refine mr_iald C w 3 2 rfl rfl hi dX5_euler_71 ?_
        refine lv_goto (tgt := 76) hx hb dX5_euler_72 (by decide) ?_
        exact M_euler_a76 C hT18 hT31 hT92 hT104 hT168 h (lv_sub hl [0, 2, 3] rfl) w
def M_euler_w18 (post : Int32 → MS → Prop) (T18 : Int32 → Int32 → MS → Prop) (T31 : Int32 → Int32 → Int32 → MS → Prop) (T92 : Int32 → Int32 → MS → Prop) (T104 : Int32 → Int32 → Int32 → MS → Prop) (T168 : Int32 → Int32 → MS → Prop) (x1 : Int32) (x2 : Int32) (S : MS) : Prop :=
  ((((6 : Int32) * (gF S 0)) ≤ x2 → T92 x1 (0 : Int32) S) ∧ (¬ ((6 : Int32) * (gF S 0)) ≤ x2 → T31 x1 x2 (0 : Int32) S))
set_option maxHeartbeats 4000000 in
set_option maxRecDepth 100000 in
theorem M_euler_a18 {p : Program} {l : Launch} {e : Env} {s : State} {m : MethodId} {args : Array Value} {below : List Frame} {meth : Method} {c : Code} {D : va_G} {dA : Nat → ClassId} {o : Nat → Nat} {A : Nat → Prop} {post : Int32 → MS → Prop} {T18 : Int32 → Int32 → MS → Prop} {T31 : Int32 → Int32 → Int32 → MS → Prop} {T92 : Int32 → Int32 → MS → Prop} {T104 : Int32 → Int32 → Int32 → MS → Prop} {T168 : Int32 → Int32 → MS → Prop} (C : mC p m c cX5_euler 4 s args meth (Option.some Jvm.ClassFile.FieldType.int) A) (hT18 : ∀ (x1 : Int32) (x2 : Int32) (S : MS), T18 x1 x2 S → ∀ (H : Heap) (locs : List Loc) (ls : Array Slot), lv_has ls 4 [(0, .ref (o 0)), (1, .int x1), (2, .int x2)] → mw D dA o A s S H locs → W p l e rM_euler s m args below meth c H locs 0 0 (mQi below args s D dA o A post) (F0 m 18 ls [])) (hT31 : ∀ (x1 : Int32) (x2 : Int32) (x3 : Int32) (S : MS), T31 x1 x2 x3 S → ∀ (H : Heap) (locs : List Loc) (ls : Array Slot), lv_has ls 4 [(0, .ref (o 0)), (1, .int x1), (2, .int x2), (3, .int x3)] → mw D dA o A s S H locs → W p l e rM_euler s m args below meth c H locs 0 0 (mQi below args s D dA o A post) (F0 m 31 ls [])) (hT92 : ∀ (x1 : Int32) (x2 : Int32) (S : MS), T92 x1 x2 S → ∀ (H : Heap) (locs : List Loc) (ls : Array Slot), lv_has ls 4 [(0, .ref (o 0)), (1, .int x1), (2, .int x2)] → mw D dA o A s S H locs → W p l e rM_euler s m args below meth c H locs 0 0 (mQi below args s D dA o A post) (F0 m 92 ls [])) (hT104 : ∀ (x1 : Int32) (x2 : Int32) (x3 : Int32) (S : MS), T104 x1 x2 x3 S → ∀ (H : Heap) (locs : List Loc) (ls : Array Slot), lv_has ls 4 [(0, .ref (o 0)), (1, .int x1), (2, .int x2), (3, .int x3)] → mw D dA o A s S H locs → W p l e rM_euler s m args below meth c H locs 0 0 (mQi below args s D dA o A post) (F0 m 104 ls [])) (hT168 : ∀ (x1 : Int32) (x2 : Int32) (S : MS), T168 x1 x2 S → ∀ (H : Heap) (locs : List Loc) (ls : Array Slot), lv_has ls 4 [(0, .ref (o 0)), (1, .int x1), (2, .int x2)] → mw D dA o A s S H locs → W p l e rM_euler s m args below meth c H locs 0 0 (mQi below args s D dA o A post) (F0 m 168 ls [])) {x1 : Int32} {x2 : Int32} {S : MS} (h : M_euler_w18 post T18 T31 T92 T104 T168 x1 x2 S) {H : Heap} {locs : List Loc} {ls : Array Slot} (hl : lv_has ls 4 [(0, .ref (o 0)), (1, .int x1), (2, .int x2)]) (w : mw D dA o A s S H locs) : W p l e rM_euler s m args below meth c H locs 0 0 (mQi below args s D dA o A post) (F0 m 18 ls []) := by
  unfold M_euler_w18 at h
  obtain ⟨⟨hx, hb, hml, hown, hts⟩, hr, hlk, hA⟩ := id C
  refine lv_iload_n hx hb dX5_euler_18 rfl (lv_at hl 2 rfl) ?_
  refine lv_bipush (v := 6) hx hb dX5_euler_19 (by decide) ?_
  refine lv_aload_n hx hb dX5_euler_21 rfl (lv_at hl 0 rfl) ?_
  refine mr_get C w 0 (by decide) q577 rfl rfl dX5_euler_22 ?_
  refine lv_imul hx hb dX5_euler_25 ?_
  obtain ⟨h1, h2⟩ := h
  refine lv_icmp_ge (tgt := 90) hx hb dX5_euler_26 (by decide) (fun c1 => ?_) (fun c1 => ?_)
  · have h := h1 c1
    refine lv_iconst (v := 0) hx hb dX5_euler_90 (by decide) ?_
    refine lv_istore_n (lv' := [(2, .int _), (0, .ref _), (1, .int _)]) hx hb dX5_euler_91 rfl hl (by decide) rfl (fun ls hl => ?_)
    exact hT92 _ _ _ h _ _ _ (lv_sub hl [1, 2, 0] rfl) w
  · have h := h2 c1
    refine lv_iconst (v := 0) hx hb dX5_euler_29 (by decide) ?_
    refine lv_istore_n (lv' := [(3, .int _), (0, .ref _), (1, .int _), (2, .int _)]) hx hb dX5_euler_30 rfl hl (by decide) rfl (fun ls hl => ?_)
    exact hT31 _ _ _ _ h _ _ _ (lv_sub hl [1, 2, 3, 0] rfl) w
def M_euler_w0 (post : Int32 → MS → Prop) (T18 : Int32 → Int32 → MS → Prop) (T31 : Int32 → Int32 → Int32 → MS → Prop) (T92 : Int32 → Int32 → MS → Prop) (T104 : Int32 → Int32 → Int32 → MS → Prop) (T168 : Int32 → Int32 → MS → Prop) (S : MS) : Prop :=
  M_legal S (fun (r1 : Int32) (S1 : MS) => ((r1 = 0 → M_label S1 (fun (S2 : MS) => T18 (0 : Int32) (0 : Int32) S2)) ∧ (¬ r1 = 0 → post (-2147483648 : Int32) S1)))
set_option maxHeartbeats 4000000 in
set_option maxRecDepth 100000 in
theorem M_euler_a0 {p : Program} {l : Launch} {e : Env} {s : State} {m : MethodId} {args : Array Value} {below : List Frame} {meth : Method} {c : Code} {D : va_G} {dA : Nat → ClassId} {o : Nat → Nat} {A : Nat → Prop} {post : Int32 → MS → Prop} {T18 : Int32 → Int32 → MS → Prop} {T31 : Int32 → Int32 → Int32 → MS → Prop} {T92 : Int32 → Int32 → MS → Prop} {T104 : Int32 → Int32 → Int32 → MS → Prop} {T168 : Int32 → Int32 → MS → Prop} (C : mC p m c cX5_euler 4 s args meth (Option.some Jvm.ClassFile.FieldType.int) A) (hT18 : ∀ (x1 : Int32) (x2 : Int32) (S : MS), T18 x1 x2 S → ∀ (H : Heap) (locs : List Loc) (ls : Array Slot), lv_has ls 4 [(0, .ref (o 0)), (1, .int x1), (2, .int x2)] → mw D dA o A s S H locs → W p l e rM_euler s m args below meth c H locs 0 0 (mQi below args s D dA o A post) (F0 m 18 ls [])) (hT31 : ∀ (x1 : Int32) (x2 : Int32) (x3 : Int32) (S : MS), T31 x1 x2 x3 S → ∀ (H : Heap) (locs : List Loc) (ls : Array Slot), lv_has ls 4 [(0, .ref (o 0)), (1, .int x1), (2, .int x2), (3, .int x3)] → mw D dA o A s S H locs → W p l e rM_euler s m args below meth c H locs 0 0 (mQi below args s D dA o A post) (F0 m 31 ls [])) (hT92 : ∀ (x1 : Int32) (x2 : Int32) (S : MS), T92 x1 x2 S → ∀ (H : Heap) (locs : List Loc) (ls : Array Slot), lv_has ls 4 [(0, .ref (o 0)), (1, .int x1), (2, .int x2)] → mw D dA o A s S H locs → W p l e rM_euler s m args below meth c H locs 0 0 (mQi below args s D dA o A post) (F0 m 92 ls [])) (hT104 : ∀ (x1 : Int32) (x2 : Int32) (x3 : Int32) (S : MS), T104 x1 x2 x3 S → ∀ (H : Heap) (locs : List Loc) (ls : Array Slot), lv_has ls 4 [(0, .ref (o 0)), (1, .int x1), (2, .int x2), (3, .int x3)] → mw D dA o A s S H locs → W p l e rM_euler s m args below meth c H locs 0 0 (mQi below args s D dA o A post) (F0 m 104 ls [])) (hT168 : ∀ (x1 : Int32) (x2 : Int32) (S : MS), T168 x1 x2 S → ∀ (H : Heap) (locs : List Loc) (ls : Array Slot), lv_has ls 4 [(0, .ref (o 0)), (1, .int x1), (2, .int x2)] → mw D dA o A s S H locs → W p l e rM_euler s m args below meth c H locs 0 0 (mQi below args s D dA o A post) (F0 m 168 ls [])) {S : MS} (h : M_euler_w0 post T18 T31 T92 T104 T168 S) {H : Heap} {locs : List Loc} {ls : Array Slot} (hl : lv_has ls 4 [(0, .ref (o 0))]) (w : mw D dA o A s S H locs) : W p l e rM_euler s m args below meth c H locs 0 0 (mQi below args s D dA o A post) (F0 m 0 ls []) := by
  unfold M_euler_w0 at h
  obtain ⟨⟨hx, hb, hml, hown, hts⟩, hr, hlk, hA⟩ := id C
  refine lv_aload_n hx hb dX5_euler_0 rfl (lv_at hl 0 rfl) ?_
  refine mr_callVI (rest := []) C w h (lw_V q894 q883 q884 q87 q885) M_legal_d rfl rfl ⟨Nat.le_of_ble_eq_true rfl, Nat.le_of_ble_eq_true rfl⟩ rfl hl.1 rfl (Nat.le_of_ble_eq_true rfl) ⟨Nat.zero_le _, Nat.zero_le _⟩ dX5_euler_1 (fun r1 S1 H locs h w => ?_)
  obtain ⟨h1, h2⟩ := h
  refine lv_if_eq (tgt := 10) hx hb dX5_euler_4 (by decide) (fun c1 => ?_) (fun c1 => ?_)
  · have h := h1 c1
    refine lv_aload_n hx hb dX5_euler_10 rfl (lv_at hl 0 rfl) ?_
    refine mr_callVV (rest := []) C w h (lw_V q695 q697 qs37 q87 q698) M_label_d rfl rfl ⟨Nat.le_of_ble_eq_true rfl, Nat.le_of_ble_eq_true rfl⟩ rfl hl.1 rfl (Nat.le_of_ble_eq_true rfl) ⟨Nat.zero_le _, Nat.zero_le _⟩ dX5_euler_11 (fun S2 H locs h w => ?_)
    refine lv_iconst (v := 0) hx hb dX5_euler_14 (by decide) ?_
    refine lv_istore_n (lv' := [(1, .int _), (0, .ref _)]) hx hb dX5_euler_15 rfl hl (by decide) rfl (fun ls hl => ?_)
    refine lv_iconst (v := 0) hx hb dX5_euler_16 (by decide) ?_
    refine lv_istore_n (lv' := [(2, .int _), (1, .int _), (0, .ref _)]) hx hb dX5_euler_17 rfl hl (by decide) rfl (fun ls hl => ?_)
    exact hT18 _ _ _ h _ _ _ (lv_sub hl [2, 1, 0] rfl) w
  · have h := h2 c1
    refine lv_ldc hx hb hown (hts _ q746) dX5_euler_7 ?_
    exact mr_iret C w h dX5_euler_9
def M_euler_VC (S : MS) (post : Int32 → MS → Prop) : Prop := ∀ (T18 : Int32 → Int32 → MS → Prop) (T31 : Int32 → Int32 → Int32 → MS → Prop) (T92 : Int32 → Int32 → MS → Prop) (T104 : Int32 → Int32 → Int32 → MS → Prop) (T168 : Int32 → Int32 → MS → Prop), (∀ (x1 : Int32) (x2 : Int32) (S : MS), M_euler_w18 post T18 T31 T92 T104 T168 x1 x2 S → T18 x1 x2 S) → (∀ (x1 : Int32) (x2 : Int32) (x3 : Int32) (S : MS), M_euler_w31 post T18 T31 T92 T104 T168 x1 x2 x3 S → T31 x1 x2 x3 S) → (∀ (x1 : Int32) (x2 : Int32) (S : MS), M_euler_w92 post T18 T31 T92 T104 T168 x1 x2 S → T92 x1 x2 S) → (∀ (x1 : Int32) (x2 : Int32) (x3 : Int32) (S : MS), M_euler_w104 post T18 T31 T92 T104 T168 x1 x2 x3 S → T104 x1 x2 x3 S) → (∀ (x1 : Int32) (x2 : Int32) (S : MS), M_euler_w168 post T18 T31 T92 T104 T168 x1 x2 S → T168 x1 x2 S) → M_euler_w0 post T18 T31 T92 T104 T168 S
theorem M_euler_ok {S : MS} {post : Int32 → MS → Prop} (h : M_euler_VC S post) : M_euler S post := by
  intro l D dA o sz
  refine mr_start (fun A => va_Qi post (mB D dA o A) A) rfl (Nat.le_of_ble_eq_true rfl) (by decide) ?_
  intro p e s m args below meth c ls A C w hl
  have hl : lv_has ls 4 [(0, .ref (o 0))] := hl
  have h := h (fun (x1 : Int32) (x2 : Int32) S => ∀ (H : Heap) (locs : List Loc) (ls : Array Slot), lv_has ls 4 [(0, .ref (o 0)), (1, .int x1), (2, .int x2)] → mw D dA o A s S H locs → W p l e rM_euler s m args below meth c H locs 0 0 (mQi below args s D dA o A post) (F0 m 18 ls [])) (fun (x1 : Int32) (x2 : Int32) (x3 : Int32) S => ∀ (H : Heap) (locs : List Loc) (ls : Array Slot), lv_has ls 4 [(0, .ref (o 0)), (1, .int x1), (2, .int x2), (3, .int x3)] → mw D dA o A s S H locs → W p l e rM_euler s m args below meth c H locs 0 0 (mQi below args s D dA o A post) (F0 m 31 ls [])) (fun (x1 : Int32) (x2 : Int32) S => ∀ (H : Heap) (locs : List Loc) (ls : Array Slot), lv_has ls 4 [(0, .ref (o 0)), (1, .int x1), (2, .int x2)] → mw D dA o A s S H locs → W p l e rM_euler s m args below meth c H locs 0 0 (mQi below args s D dA o A post) (F0 m 92 ls [])) (fun (x1 : Int32) (x2 : Int32) (x3 : Int32) S => ∀ (H : Heap) (locs : List Loc) (ls : Array Slot), lv_has ls 4 [(0, .ref (o 0)), (1, .int x1), (2, .int x2), (3, .int x3)] → mw D dA o A s S H locs → W p l e rM_euler s m args below meth c H locs 0 0 (mQi below args s D dA o A post) (F0 m 104 ls [])) (fun (x1 : Int32) (x2 : Int32) S => ∀ (H : Heap) (locs : List Loc) (ls : Array Slot), lv_has ls 4 [(0, .ref (o 0)), (1, .int x1), (2, .int x2)] → mw D dA o A s S H locs → W p l e rM_euler s m args below meth c H locs 0 0 (mQi below args s D dA o A post) (F0 m 168 ls [])) (fun _ _ S h H locs ls hl w => M_euler_a18 C (fun _ _ _ h => h) (fun _ _ _ _ h => h) (fun _ _ _ h => h) (fun _ _ _ _ h => h) (fun _ _ _ h => h) h hl w) (fun _ _ _ S h H locs ls hl w => M_euler_a31 C (fun _ _ _ h => h) (fun _ _ _ _ h => h) (fun _ _ _ h => h) (fun _ _ _ _ h => h) (fun _ _ _ h => h) h hl w) (fun _ _ S h H locs ls hl w => M_euler_a92 C (fun _ _ _ h => h) (fun _ _ _ _ h => h) (fun _ _ _ h => h) (fun _ _ _ _ h => h) (fun _ _ _ h => h) h hl w) (fun _ _ _ S h H locs ls hl w => M_euler_a104 C (fun _ _ _ h => h) (fun _ _ _ _ h => h) (fun _ _ _ h => h) (fun _ _ _ _ h => h) (fun _ _ _ h => h) h hl w) (fun _ _ S h H locs ls hl w => M_euler_a168 C (fun _ _ _ h => h) (fun _ _ _ _ h => h) (fun _ _ _ h => h) (fun _ _ _ _ h => h) (fun _ _ _ h => h) h hl w)
  exact M_euler_a0 C (fun _ _ _ h => h) (fun _ _ _ _ h => h) (fun _ _ _ h => h) (fun _ _ _ _ h => h) (fun _ _ _ h => h) h (lv_sub hl [0] rfl) w

/-! cutAt(III)I -/
def M_cutAt_w117 (post : Int32 → MS → Prop) (v0 : Int32) (v1 : Int32) (S : MS) : Prop :=
  post (v1 + v0) S
set_option maxHeartbeats 4000000 in
set_option maxRecDepth 100000 in
theorem M_cutAt_a117 {p : Program} {l : Launch} {e : Env} {s : State} {m : MethodId} {args : Array Value} {below : List Frame} {meth : Method} {c : Code} {D : va_G} {dA : Nat → ClassId} {o : Nat → Nat} {A : Nat → Prop} {post : Int32 → MS → Prop} (C : mC p m c cX5_cutAt 9 s args meth (Option.some Jvm.ClassFile.FieldType.int) A) {v0 : Int32} {v1 : Int32} {S : MS} (h : M_cutAt_w117 post v0 v1 S) {H : Heap} {locs : List Loc} {ls : Array Slot} (hl : lv_has ls 9 [(0, .ref (o 0))]) (w : mw D dA o A s S H locs) : W p l e rM_cutAt s m args below meth c H locs 0 0 (mQi below args s D dA o A post) (F0 m 117 ls [.int v0, .int v1]) := by
  unfold M_cutAt_w117 at h
  obtain ⟨⟨hx, hb, hml, hown, hts⟩, hr, hlk, hA⟩ := id C
  refine lv_iadd hx hb dX5_cutAt_117 ?_
  exact mr_iret C w h dX5_cutAt_118
def M_cutAt_w66 (post : Int32 → MS → Prop) (v0 : Int32) (x3 : Int32) (x4 : Int32) (x5 : Int32) (x6 : Int32) (S : MS) : Prop :=
  (vp_in (((7 : Int32) * x4) + x6) 21 ∧ (vp_in (((7 : Int32) * x4) + x6) 22 ∧ ((v0 = 0 → M_cutAt_w117 post (((gI S 3 ((((7 : Int32) * x4) + x6)).toNatClampNeg) - (1 : Int32)) - (x3 - x5)) (gI S 20 ((((7 : Int32) * x4) + x6)).toNatClampNeg) S) ∧ (¬ v0 = 0 → M_cutAt_w117 post (x3 - x5) (gI S 20 ((((7 : Int32) * x4) + x6)).toNatClampNeg) S))))
set_option maxHeartbeats 4000000 in
set_option maxRecDepth 100000 in
theorem M_cutAt_a66 {p : Program} {l : Launch} {e : Env} {s : State} {m : MethodId} {args : Array Value} {below : List Frame} {meth : Method} {c : Code} {D : va_G} {dA : Nat → ClassId} {o : Nat → Nat} {A : Nat → Prop} {post : Int32 → MS → Prop} (C : mC p m c cX5_cutAt 9 s args meth (Option.some Jvm.ClassFile.FieldType.int) A) {v0 : Int32} {x3 : Int32} {x4 : Int32} {x5 : Int32} {x6 : Int32} {S : MS} (h : M_cutAt_w66 post v0 x3 x4 x5 x6 S) {H : Heap} {locs : List Loc} {ls : Array Slot} (hl : lv_has ls 9 [(0, .ref (o 0)), (3, .int x3), (4, .int x4), (5, .int x5), (6, .int x6)]) (w : mw D dA o A s S H locs) : W p l e rM_cutAt s m args below meth c H locs 0 0 (mQi below args s D dA o A post) (F0 m 66 ls [.int v0]) := by
  unfold M_cutAt_w66 at h
  obtain ⟨⟨hx, hb, hml, hown, hts⟩, hr, hlk, hA⟩ := id C
  refine lv_istore (lv' := [(7, .int _), (0, .ref _), (3, .int _), (4, .int _), (5, .int _), (6, .int _)]) hx hb dX5_cutAt_66 hl (by decide) rfl (fun ls hl => ?_)
  refine lv_aload_n hx hb dX5_cutAt_68 rfl (lv_at hl 1 rfl) ?_
  refine mr_get C w 3 (by decide) q580 rfl rfl dX5_cutAt_69 ?_
  refine lv_bipush (v := 7) hx hb dX5_cutAt_72 (by decide) ?_
  refine lv_iload hx hb dX5_cutAt_74 (lv_at hl 3 rfl) ?_
  refine lv_imul hx hb dX5_cutAt_76 ?_
  refine lv_iload hx hb dX5_cutAt_77 (lv_at hl 5 rfl) ?_
  refine lv_iadd hx hb dX5_cutAt_79 ?_
  obtain ⟨hi, h⟩ := h
  refine mr_iald C w 3 2 rfl rfl hi dX5_cutAt_80 ?_
  refine lv_istore (lv' := [(8, .int _), (7, .int _), (0, .ref _), (3, .int _), (4, .int _), (5, .int _), (6, .int _)]) hx hb dX5_cutAt_81 hl (by decide) rfl (fun ls hl => ?_)
  refine lv_aload_n hx hb dX5_cutAt_83 rfl (lv_at hl 2 rfl) ?_
  refine mr_get C w 20 (by decide) q597 rfl rfl dX5_cutAt_84 ?_
  refine lv_bipush (v := 7) hx hb dX5_cutAt_87 (by decide) ?_
  refine lv_iload hx hb dX5_cutAt_89 (lv_at hl 4 rfl) ?_
  refine lv_imul hx hb dX5_cutAt_91 ?_
  refine lv_iload hx hb dX5_cutAt_92 (lv_at hl 6 rfl) ?_
  refine lv_iadd hx hb dX5_cutAt_94 ?_
  obtain ⟨hi, h⟩ := h
  refine mr_iald C w 14 13 rfl rfl hi dX5_cutAt_95 ?_
  refine lv_iload hx hb dX5_cutAt_96 (lv_at hl 1 rfl) ?_
  obtain ⟨h1, h2⟩ := h
  refine lv_if_eq (tgt := 108) hx hb dX5_cutAt_98 (by decide) (fun c1 => ?_) (fun c1 => ?_)
  · have h := h1 c1
    refine lv_iload hx hb dX5_cutAt_108 (lv_at hl 0 rfl) ?_
    refine lv_iconst (v := 1) hx hb dX5_cutAt_110 (by decide) ?_
    refine lv_isub hx hb dX5_cutAt_111 ?_
    refine lv_iload_n hx hb dX5_cutAt_112 rfl (lv_at hl 3 rfl) ?_
    refine lv_iload hx hb dX5_cutAt_113 (lv_at hl 5 rfl) ?_
    refine lv_isub hx hb dX5_cutAt_115 ?_
    refine lv_isub hx hb dX5_cutAt_116 ?_
    exact M_cutAt_a117 C h (lv_sub hl [2] rfl) w
  · have h := h2 c1
    refine lv_iload_n hx hb dX5_cutAt_101 rfl (lv_at hl 3 rfl) ?_
    refine lv_iload hx hb dX5_cutAt_102 (lv_at hl 5 rfl) ?_
    refine lv_isub hx hb dX5_cutAt_104 ?_
    refine lv_goto (tgt := 117) hx hb dX5_cutAt_105 (by decide) ?_
    exact M_cutAt_a117 C h (lv_sub hl [2] rfl) w
def M_cutAt_w61 (post : Int32 → MS → Prop) (x3 : Int32) (x4 : Int32) (x5 : Int32) (x6 : Int32) (S : MS) : Prop :=
  M_cutAt_w66 post (1 : Int32) x3 x4 x5 x6 S
set_option maxHeartbeats 4000000 in
set_option maxRecDepth 100000 in
theorem M_cutAt_a61 {p : Program} {l : Launch} {e : Env} {s : State} {m : MethodId} {args : Array Value} {below : List Frame} {meth : Method} {c : Code} {D : va_G} {dA : Nat → ClassId} {o : Nat → Nat} {A : Nat → Prop} {post : Int32 → MS → Prop} (C : mC p m c cX5_cutAt 9 s args meth (Option.some Jvm.ClassFile.FieldType.int) A) {x3 : Int32} {x4 : Int32} {x5 : Int32} {x6 : Int32} {S : MS} (h : M_cutAt_w61 post x3 x4 x5 x6 S) {H : Heap} {locs : List Loc} {ls : Array Slot} (hl : lv_has ls 9 [(0, .ref (o 0)), (3, .int x3), (4, .int x4), (5, .int x5), (6, .int x6)]) (w : mw D dA o A s S H locs) : W p l e rM_cutAt s m args below meth c H locs 0 0 (mQi below args s D dA o A post) (F0 m 61 ls []) := by
  unfold M_cutAt_w61 at h
  obtain ⟨⟨hx, hb, hml, hown, hts⟩, hr, hlk, hA⟩ := id C
  refine lv_iconst (v := 1) hx hb dX5_cutAt_61 (by decide) ?_
  refine lv_goto (tgt := 66) hx hb dX5_cutAt_62 (by decide) ?_
  exact M_cutAt_a66 C h (lv_sub hl [0, 1, 2, 3, 4] rfl) w
def M_cutAt_w0 (post : Int32 → MS → Prop) (x1 : Int32) (x2 : Int32) (x3 : Int32) (S : MS) : Prop :=
  (vp_in (((7 : Int32) * (x1 / (4 : Int32))) + x2) 21 ∧ (((gI S 3 ((((7 : Int32) * (x1 / (4 : Int32))) + x2)).toNatClampNeg) ≤ x3 → M_kindOf x2 (x1 - x1 / (4 : Int32) * (4 : Int32)) S (fun (r1 : Int32) (S1 : MS) => ((x2 = 0 → M_cutAt_w61 post x3 (x1 / (4 : Int32)) (gI S 3 ((((7 : Int32) * (x1 / (4 : Int32))) + x2)).toNatClampNeg) ((4 : Int32) + r1) S1) ∧ (¬ x2 = 0 → ((¬ (x1 - x1 / (4 : Int32) * (4 : Int32)) = 0 → M_cutAt_w66 post (0 : Int32) x3 (x1 / (4 : Int32)) (gI S 3 ((((7 : Int32) * (x1 / (4 : Int32))) + x2)).toNatClampNeg) ((4 : Int32) + r1) S1) ∧ ((x1 - x1 / (4 : Int32) * (4 : Int32)) = 0 → M_cutAt_w61 post x3 (x1 / (4 : Int32)) (gI S 3 ((((7 : Int32) * (x1 / (4 : Int32))) + x2)).toNatClampNeg) ((4 : Int32) + r1) S1)))))) ∧ (¬ (gI S 3 ((((7 : Int32) * (x1 / (4 : Int32))) + x2)).toNatClampNeg) ≤ x3 → (vp_in (((7 : Int32) * (x1 / (4 : Int32))) + x2) 22 ∧ post ((gI S 20 ((((7 : Int32) * (x1 / (4 : Int32))) + x2)).toNatClampNeg) + x3) S))))
set_option maxHeartbeats 4000000 in
set_option maxRecDepth 100000 in
theorem M_cutAt_a0 {p : Program} {l : Launch} {e : Env} {s : State} {m : MethodId} {args : Array Value} {below : List Frame} {meth : Method} {c : Code} {D : va_G} {dA : Nat → ClassId} {o : Nat → Nat} {A : Nat → Prop} {post : Int32 → MS → Prop} (C : mC p m c cX5_cutAt 9 s args meth (Option.some Jvm.ClassFile.FieldType.int) A) {x1 : Int32} {x2 : Int32} {x3 : Int32} {S : MS} (h : M_cutAt_w0 post x1 x2 x3 S) {H : Heap} {locs : List Loc} {ls : Array Slot} (hl : lv_has ls 9 [(0, .ref (o 0)), (1, .int x1), (2, .int x2), (3, .int x3)]) (w : mw D dA o A s S H locs) : W p l e rM_cutAt s m args below meth c H locs 0 0 (mQi below args s D dA o A post) (F0 m 0 ls []) := by
  unfold M_cutAt_w0 at h
  obtain ⟨⟨hx, hb, hml, hown, hts⟩, hr, hlk, hA⟩ := id C
  refine lv_iload_n hx hb dX5_cutAt_0 rfl (lv_at hl 1 rfl) ?_
  refine lv_iconst (v := 4) hx hb dX5_cutAt_1 (by decide) ?_
  refine lv_idiv hx hb dX5_cutAt_2 (by decide) ?_
  refine lv_istore (lv' := [(4, .int _), (0, .ref _), (1, .int _), (2, .int _), (3, .int _)]) hx hb dX5_cutAt_3 hl (by decide) rfl (fun ls hl => ?_)
  refine lv_aload_n hx hb dX5_cutAt_5 rfl (lv_at hl 1 rfl) ?_
  refine mr_get C w 3 (by decide) q580 rfl rfl dX5_cutAt_6 ?_
  refine lv_bipush (v := 7) hx hb dX5_cutAt_9 (by decide) ?_
  refine lv_iload hx hb dX5_cutAt_11 (lv_at hl 0 rfl) ?_
  refine lv_imul hx hb dX5_cutAt_13 ?_
  refine lv_iload_n hx hb dX5_cutAt_14 rfl (lv_at hl 3 rfl) ?_
  refine lv_iadd hx hb dX5_cutAt_15 ?_
  obtain ⟨hi, h⟩ := h
  refine mr_iald C w 3 2 rfl rfl hi dX5_cutAt_16 ?_
  refine lv_istore (lv' := [(5, .int _), (4, .int _), (0, .ref _), (1, .int _), (2, .int _), (3, .int _)]) hx hb dX5_cutAt_17 hl (by decide) rfl (fun ls hl => ?_)
  refine lv_iload_n hx hb dX5_cutAt_19 rfl (lv_at hl 5 rfl) ?_
  refine lv_iload hx hb dX5_cutAt_20 (lv_at hl 0 rfl) ?_
  obtain ⟨h1, h2⟩ := h
  refine lv_icmp_ge (tgt := 40) hx hb dX5_cutAt_22 (by decide) (fun c1 => ?_) (fun c1 => ?_)
  · have h := h1 c1
    refine lv_iconst (v := 4) hx hb dX5_cutAt_40 (by decide) ?_
    refine lv_iload_n hx hb dX5_cutAt_41 rfl (lv_at hl 4 rfl) ?_
    refine lv_iload_n hx hb dX5_cutAt_42 rfl (lv_at hl 3 rfl) ?_
    refine lv_iconst (v := 4) hx hb dX5_cutAt_43 (by decide) ?_
    refine lv_irem hx hb dX5_cutAt_44 (by decide) ?_
    refine mr_callSI (rest := [.int _]) C w h (lw_S q828 q829 q87 q830) M_kindOf_d rfl rfl ⟨Nat.le_of_ble_eq_true rfl, Nat.le_of_ble_eq_true rfl⟩ rfl hl.1 rfl (Nat.le_of_ble_eq_true rfl) ⟨Nat.zero_le _, Nat.zero_le _⟩ dX5_cutAt_45 (fun r1 S1 H locs h w => ?_)
    refine lv_iadd hx hb dX5_cutAt_48 ?_
    refine lv_istore (lv' := [(6, .int _), (5, .int _), (4, .int _), (0, .ref _), (1, .int _), (2, .int _), (3, .int _)]) hx hb dX5_cutAt_49 hl (by decide) rfl (fun ls hl => ?_)
    refine lv_iload_n hx hb dX5_cutAt_51 rfl (lv_at hl 5 rfl) ?_
    obtain ⟨h1, h2⟩ := h
    refine lv_if_eq (tgt := 61) hx hb dX5_cutAt_52 (by decide) (fun c1 => ?_) (fun c1 => ?_)
    · have h := h1 c1
      exact M_cutAt_a61 C h (lv_sub hl [3, 6, 2, 1, 0] rfl) w
    · have h := h2 c1
      refine lv_iload_n hx hb dX5_cutAt_55 rfl (lv_at hl 4 rfl) ?_
      refine lv_iconst (v := 4) hx hb dX5_cutAt_56 (by decide) ?_
      refine lv_irem hx hb dX5_cutAt_57 (by decide) ?_
      obtain ⟨h1, h2⟩ := h
      refine lv_if_ne (tgt := 65) hx hb dX5_cutAt_58 (by decide) (fun c1 => ?_) (fun c1 => ?_)
      · have h := h1 c1
        refine lv_iconst (v := 0) hx hb dX5_cutAt_65 (by decide) ?_
        exact M_cutAt_a66 C h (lv_sub hl [3, 6, 2, 1, 0] rfl) w
      · have h := h2 c1
        exact M_cutAt_a61 C h (lv_sub hl [3, 6, 2, 1, 0] rfl) w
  · have h := h2 c1
    refine lv_aload_n hx hb dX5_cutAt_25 rfl (lv_at hl 2 rfl) ?_
    refine mr_get C w 20 (by decide) q597 rfl rfl dX5_cutAt_26 ?_
    refine lv_bipush (v := 7) hx hb dX5_cutAt_29 (by decide) ?_
    refine lv_iload hx hb dX5_cutAt_31 (lv_at hl 1 rfl) ?_
    refine lv_imul hx hb dX5_cutAt_33 ?_
    refine lv_iload_n hx hb dX5_cutAt_34 rfl (lv_at hl 4 rfl) ?_
    refine lv_iadd hx hb dX5_cutAt_35 ?_
    obtain ⟨hi, h⟩ := h
    refine mr_iald C w 14 13 rfl rfl hi dX5_cutAt_36 ?_
    refine lv_iload_n hx hb dX5_cutAt_37 rfl (lv_at hl 5 rfl) ?_
    refine lv_iadd hx hb dX5_cutAt_38 ?_
    exact mr_iret C w h dX5_cutAt_39
def M_cutAt_VC (x1 : Int32) (x2 : Int32) (x3 : Int32) (S : MS) (post : Int32 → MS → Prop) : Prop := M_cutAt_w0 post x1 x2 x3 S
theorem M_cutAt_ok {x1 : Int32} {x2 : Int32} {x3 : Int32} {S : MS} {post : Int32 → MS → Prop} (h : M_cutAt_VC x1 x2 x3 S post) : M_cutAt x1 x2 x3 S post := by
  intro l D dA o sz
  refine mr_start (fun A => va_Qi post (mB D dA o A) A) rfl (Nat.le_of_ble_eq_true rfl) (by decide) ?_
  intro p e s m args below meth c ls A C w hl
  have hl : lv_has ls 9 [(0, .ref (o 0)), (1, .int x1), (2, .int x2), (3, .int x3)] := hl
  exact M_cutAt_a0 C h (lv_sub hl [0, 1, 2, 3] rfl) w
