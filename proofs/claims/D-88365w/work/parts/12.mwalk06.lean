/-! layLoops()V -/
def M_layLoops_w48 (post : MS → Prop) (T11 : Int32 → MS → Prop) (x1 : Int32) (S : MS) : Prop :=
  T11 (x1 + (1 : Int32)) S
set_option maxHeartbeats 4000000 in
set_option maxRecDepth 100000 in
theorem M_layLoops_a48 {p : Program} {l : Launch} {e : Env} {s : State} {m : MethodId} {args : Array Value} {below : List Frame} {meth : Method} {c : Code} {D : va_G} {dA : Nat → ClassId} {o : Nat → Nat} {A : Nat → Prop} {post : MS → Prop} {T11 : Int32 → MS → Prop} (C : mC p m c cX5_layLoops 2 s args meth (Option.none : Option Jvm.ClassFile.FieldType) A) (hT11 : ∀ (x1 : Int32) (S : MS), T11 x1 S → ∀ (H : Heap) (locs : List Loc) (ls : Array Slot), lv_has ls 2 [(0, .ref (o 0)), (1, .int x1)] → mw D dA o A s S H locs → W p l e rM_layLoops s m args below meth c H locs 0 0 (mQv below args s D dA o A post) (F0 m 11 ls [])) {x1 : Int32} {S : MS} (h : M_layLoops_w48 post T11 x1 S) {H : Heap} {locs : List Loc} {ls : Array Slot} (hl : lv_has ls 2 [(0, .ref (o 0)), (1, .int x1)]) (w : mw D dA o A s S H locs) : W p l e rM_layLoops s m args below meth c H locs 0 0 (mQv below args s D dA o A post) (F0 m 48 ls []) := by
  unfold M_layLoops_w48 at h
  obtain ⟨⟨hx, hb, hml, hown, hts⟩, hr, hlk, hA⟩ := id C
  refine lv_iinc (v := _ + (1 : Int32)) (lv' := [(1, .int _), (0, .ref _)]) hx hb dX5_layLoops_48 hl (k := 1) rfl rfl (by decide) rfl (fun ls hl => ?_)
  refine lv_goto (tgt := 11) hx hb dX5_layLoops_51 (by decide) ?_
  exact hT11 _ _ h _ _ _ (lv_sub hl [1, 0] rfl) w
def M_layLoops_w11 (post : MS → Prop) (T11 : Int32 → MS → Prop) (x1 : Int32) (S : MS) : Prop :=
  ((((6 : Int32) * (gF S 0)) ≤ x1 → post S) ∧ (¬ ((6 : Int32) * (gF S 0)) ≤ x1 → M_isFirstEdge x1 S (fun (r1 : Int32) (S1 : MS) => ((r1 = 0 → M_layLoops_w48 post T11 x1 S1) ∧ (¬ r1 = 0 → M_goAround x1 S1 (fun (r2 : Int32) (S2 : MS) => ((r2 = 0 → M_layLoops_w48 post T11 x1 S2) ∧ (¬ r2 = 0 → (fun (S3 : MS) => M_layLoops_w48 post T11 x1 S3) (sF S2 11 ((gF S2 11) + (1 : Int32)))))))))))
set_option maxHeartbeats 4000000 in
set_option maxRecDepth 100000 in
theorem M_layLoops_a11 {p : Program} {l : Launch} {e : Env} {s : State} {m : MethodId} {args : Array Value} {below : List Frame} {meth : Method} {c : Code} {D : va_G} {dA : Nat → ClassId} {o : Nat → Nat} {A : Nat → Prop} {post : MS → Prop} {T11 : Int32 → MS → Prop} (C : mC p m c cX5_layLoops 2 s args meth (Option.none : Option Jvm.ClassFile.FieldType) A) (hT11 : ∀ (x1 : Int32) (S : MS), T11 x1 S → ∀ (H : Heap) (locs : List Loc) (ls : Array Slot), lv_has ls 2 [(0, .ref (o 0)), (1, .int x1)] → mw D dA o A s S H locs → W p l e rM_layLoops s m args below meth c H locs 0 0 (mQv below args s D dA o A post) (F0 m 11 ls [])) {x1 : Int32} {S : MS} (h : M_layLoops_w11 post T11 x1 S) {H : Heap} {locs : List Loc} {ls : Array Slot} (hl : lv_has ls 2 [(0, .ref (o 0)), (1, .int x1)]) (w : mw D dA o A s S H locs) : W p l e rM_layLoops s m args below meth c H locs 0 0 (mQv below args s D dA o A post) (F0 m 11 ls []) := by
  unfold M_layLoops_w11 at h
  obtain ⟨⟨hx, hb, hml, hown, hts⟩, hr, hlk, hA⟩ := id C
  refine lv_iload_n hx hb dX5_layLoops_11 rfl (lv_at hl 1 rfl) ?_
  refine lv_bipush (v := 6) hx hb dX5_layLoops_12 (by decide) ?_
  refine lv_aload_n hx hb dX5_layLoops_14 rfl (lv_at hl 0 rfl) ?_
  refine mr_get C w 0 (by decide) q577 rfl rfl dX5_layLoops_15 ?_
  refine lv_imul hx hb dX5_layLoops_18 ?_
  obtain ⟨h1, h2⟩ := h
  refine lv_icmp_ge (tgt := 54) hx hb dX5_layLoops_19 (by decide) (fun c1 => ?_) (fun c1 => ?_)
  · have h := h1 c1
    exact mr_vret C w h dX5_layLoops_54
  · have h := h2 c1
    refine lv_aload_n hx hb dX5_layLoops_22 rfl (lv_at hl 0 rfl) ?_
    refine lv_iload_n hx hb dX5_layLoops_23 rfl (lv_at hl 1 rfl) ?_
    refine mr_callVI (rest := []) C w h (lw_V q722 q724 qs43 q87 q725) M_isFirstEdge_d rfl rfl ⟨Nat.le_of_ble_eq_true rfl, Nat.le_of_ble_eq_true rfl⟩ rfl hl.1 rfl (Nat.le_of_ble_eq_true rfl) ⟨Nat.zero_le _, Nat.zero_le _⟩ dX5_layLoops_24 (fun r1 S1 H locs h w => ?_)
    obtain ⟨h1, h2⟩ := h
    refine lv_if_eq (tgt := 48) hx hb dX5_layLoops_27 (by decide) (fun c1 => ?_) (fun c1 => ?_)
    · have h := h1 c1
      exact M_layLoops_a48 C hT11 h (lv_sub hl [0, 1] rfl) w
    · have h := h2 c1
      refine lv_aload_n hx hb dX5_layLoops_30 rfl (lv_at hl 0 rfl) ?_
      refine lv_iload_n hx hb dX5_layLoops_31 rfl (lv_at hl 1 rfl) ?_
      refine mr_callVI (rest := []) C w h (lw_V q799 q801 qs58 q87 q802) M_goAround_d rfl rfl ⟨Nat.le_of_ble_eq_true rfl, Nat.le_of_ble_eq_true rfl⟩ rfl hl.1 rfl (Nat.le_of_ble_eq_true rfl) ⟨Nat.zero_le _, Nat.zero_le _⟩ dX5_layLoops_32 (fun r2 S2 H locs h w => ?_)
      obtain ⟨h1, h2⟩ := h
      refine lv_if_eq (tgt := 48) hx hb dX5_layLoops_35 (by decide) (fun c1 => ?_) (fun c1 => ?_)
      · have h := h1 c1
        exact M_layLoops_a48 C hT11 h (lv_sub hl [0, 1] rfl) w
      · have h := h2 c1
        refine lv_aload_n hx hb dX5_layLoops_38 rfl (lv_at hl 0 rfl) ?_
        refine lv_dup hx hb dX5_layLoops_39 rfl ?_
        refine mr_get C w 11 (by decide) q588 rfl rfl dX5_layLoops_40 ?_
        refine lv_iconst (v := 1) hx hb dX5_layLoops_43 (by decide) ?_
        refine lv_iadd hx hb dX5_layLoops_44 ?_
        refine mr_put (ty := .int) C w 11 (by decide) q588 rfl rfl (by decide +kernel) rfl rfl MWf_11 dX5_layLoops_45 (fun H locs w => ?_)
        exact M_layLoops_a48 C hT11 h (lv_sub hl [0, 1] rfl) w
def M_layLoops_w0 (post : MS → Prop) (T11 : Int32 → MS → Prop) (S : MS) : Prop :=
  M_findPairs S (fun (S1 : MS) => (fun (S2 : MS) => T11 (0 : Int32) S2) (sF S1 11 (0 : Int32)))
set_option maxHeartbeats 4000000 in
set_option maxRecDepth 100000 in
theorem M_layLoops_a0 {p : Program} {l : Launch} {e : Env} {s : State} {m : MethodId} {args : Array Value} {below : List Frame} {meth : Method} {c : Code} {D : va_G} {dA : Nat → ClassId} {o : Nat → Nat} {A : Nat → Prop} {post : MS → Prop} {T11 : Int32 → MS → Prop} (C : mC p m c cX5_layLoops 2 s args meth (Option.none : Option Jvm.ClassFile.FieldType) A) (hT11 : ∀ (x1 : Int32) (S : MS), T11 x1 S → ∀ (H : Heap) (locs : List Loc) (ls : Array Slot), lv_has ls 2 [(0, .ref (o 0)), (1, .int x1)] → mw D dA o A s S H locs → W p l e rM_layLoops s m args below meth c H locs 0 0 (mQv below args s D dA o A post) (F0 m 11 ls [])) {S : MS} (h : M_layLoops_w0 post T11 S) {H : Heap} {locs : List Loc} {ls : Array Slot} (hl : lv_has ls 2 [(0, .ref (o 0))]) (w : mw D dA o A s S H locs) : W p l e rM_layLoops s m args below meth c H locs 0 0 (mQv below args s D dA o A post) (F0 m 0 ls []) := by
  unfold M_layLoops_w0 at h
  obtain ⟨⟨hx, hb, hml, hown, hts⟩, hr, hlk, hA⟩ := id C
  refine lv_aload_n hx hb dX5_layLoops_0 rfl (lv_at hl 0 rfl) ?_
  refine mr_callVV (rest := []) C w h (lw_V q795 q797 qs57 q87 q798) M_findPairs_d rfl rfl ⟨Nat.le_of_ble_eq_true rfl, Nat.le_of_ble_eq_true rfl⟩ rfl hl.1 rfl (Nat.le_of_ble_eq_true rfl) ⟨Nat.zero_le _, Nat.zero_le _⟩ dX5_layLoops_1 (fun S1 H locs h w => ?_)
  refine lv_aload_n hx hb dX5_layLoops_4 rfl (lv_at hl 0 rfl) ?_
  refine lv_iconst (v := 0) hx hb dX5_layLoops_5 (by decide) ?_
  refine mr_put (ty := .int) C w 11 (by decide) q588 rfl rfl (by decide +kernel) rfl rfl MWf_11 dX5_layLoops_6 (fun H locs w => ?_)
  refine lv_iconst (v := 0) hx hb dX5_layLoops_9 (by decide) ?_
  refine lv_istore_n (lv' := [(1, .int _), (0, .ref _)]) hx hb dX5_layLoops_10 rfl hl (by decide) rfl (fun ls hl => ?_)
  exact hT11 _ _ h _ _ _ (lv_sub hl [1, 0] rfl) w
def M_layLoops_VC (S : MS) (post : MS → Prop) : Prop := ∀ (T11 : Int32 → MS → Prop), (∀ (x1 : Int32) (S : MS), M_layLoops_w11 post T11 x1 S → T11 x1 S) → M_layLoops_w0 post T11 S
theorem M_layLoops_ok {S : MS} {post : MS → Prop} (h : M_layLoops_VC S post) : M_layLoops S post := by
  intro l D dA o sz
  refine mr_start (fun A => va_Qv post (mB D dA o A) A) rfl (Nat.le_of_ble_eq_true rfl) (by decide) ?_
  intro p e s m args below meth c ls A C w hl
  have hl : lv_has ls 2 [(0, .ref (o 0))] := hl
  have h := h (fun (x1 : Int32) S => ∀ (H : Heap) (locs : List Loc) (ls : Array Slot), lv_has ls 2 [(0, .ref (o 0)), (1, .int x1)] → mw D dA o A s S H locs → W p l e rM_layLoops s m args below meth c H locs 0 0 (mQv below args s D dA o A post) (F0 m 11 ls [])) (fun _ S h H locs ls hl w => M_layLoops_a11 C (fun _ _ h => h) h hl w)
  exact M_layLoops_a0 C (fun _ _ h => h) h (lv_sub hl [0] rfl) w

/-! cell(II)J -/
def M_cell_w0 (post : Int64 → MS → Prop) (x1 : Int32) (x2 : Int32) (S : MS) : Prop :=
  (vp_in (((6 : Int32) * x1) + x2) 108 ∧ post (gL S ((((6 : Int32) * x1) + x2)).toNatClampNeg) S)
set_option maxHeartbeats 4000000 in
set_option maxRecDepth 100000 in
theorem M_cell_a0 {p : Program} {l : Launch} {e : Env} {s : State} {m : MethodId} {args : Array Value} {below : List Frame} {meth : Method} {c : Code} {D : va_G} {dA : Nat → ClassId} {o : Nat → Nat} {A : Nat → Prop} {post : Int64 → MS → Prop} (C : mC p m c cX5_cell 3 s args meth (Option.some Jvm.ClassFile.FieldType.long) A) {x1 : Int32} {x2 : Int32} {S : MS} (h : M_cell_w0 post x1 x2 S) {H : Heap} {locs : List Loc} {ls : Array Slot} (hl : lv_has ls 3 [(0, .ref (o 0)), (1, .int x1), (2, .int x2)]) (w : mw D dA o A s S H locs) : W p l e rM_cell s m args below meth c H locs 0 0 (mQl below args s D dA o A post) (F0 m 0 ls []) := by
  unfold M_cell_w0 at h
  obtain ⟨⟨hx, hb, hml, hown, hts⟩, hr, hlk, hA⟩ := id C
  refine lv_aload_n hx hb dX5_cell_0 rfl (lv_at hl 0 rfl) ?_
  refine mr_get C w 10 (by decide) q587 rfl rfl dX5_cell_1 ?_
  refine lv_bipush (v := 6) hx hb dX5_cell_4 (by decide) ?_
  refine lv_iload_n hx hb dX5_cell_6 rfl (lv_at hl 1 rfl) ?_
  refine lv_imul hx hb dX5_cell_7 ?_
  refine lv_iload_n hx hb dX5_cell_8 rfl (lv_at hl 2 rfl) ?_
  refine lv_iadd hx hb dX5_cell_9 ?_
  obtain ⟨hi, h⟩ := h
  refine mr_lald C w hi dX5_cell_10 ?_
  exact mr_lret C w h dX5_cell_11
def M_cell_VC (x1 : Int32) (x2 : Int32) (S : MS) (post : Int64 → MS → Prop) : Prop := M_cell_w0 post x1 x2 S
theorem M_cell_ok {x1 : Int32} {x2 : Int32} {S : MS} {post : Int64 → MS → Prop} (h : M_cell_VC x1 x2 S post) : M_cell x1 x2 S post := by
  intro l D dA o sz
  refine mr_start (fun A => va_Ql post (mB D dA o A) A) rfl (Nat.le_of_ble_eq_true rfl) (by decide) ?_
  intro p e s m args below meth c ls A C w hl
  have hl : lv_has ls 3 [(0, .ref (o 0)), (1, .int x1), (2, .int x2)] := hl
  exact M_cell_a0 C h (lv_sub hl [0, 1, 2] rfl) w

/-! bring(I)Z -/
def M_bring_w248 (post : Int32 → MS → Prop) (T10 : Int32 → Int32 → Int32 → Int64 → Int32 → MS → Prop) (T22 : Int32 → Int32 → Int32 → Int64 → Int32 → Int32 → MS → Prop) (T111 : Int32 → Int32 → Int32 → Int32 → MS → Prop) (T176 : Int32 → Int32 → Int32 → Int32 → MS → Prop) (v0 : Int32) (S : MS) : Prop :=
  (zok v0 ∧ post v0 S)
set_option maxHeartbeats 4000000 in
set_option maxRecDepth 100000 in
theorem M_bring_a248 {p : Program} {l : Launch} {e : Env} {s : State} {m : MethodId} {args : Array Value} {below : List Frame} {meth : Method} {c : Code} {D : va_G} {dA : Nat → ClassId} {o : Nat → Nat} {A : Nat → Prop} {post : Int32 → MS → Prop} {T10 : Int32 → Int32 → Int32 → Int64 → Int32 → MS → Prop} {T22 : Int32 → Int32 → Int32 → Int64 → Int32 → Int32 → MS → Prop} {T111 : Int32 → Int32 → Int32 → Int32 → MS → Prop} {T176 : Int32 → Int32 → Int32 → Int32 → MS → Prop} (C : mC p m c cX5_bring 10 s args meth (Option.some Jvm.ClassFile.FieldType.boolean) A) (hT10 : ∀ (x1 : Int32) (x2 : Int32) (x3 : Int32) (x4 : Int64) (x6 : Int32) (S : MS), T10 x1 x2 x3 x4 x6 S → ∀ (H : Heap) (locs : List Loc) (ls : Array Slot), lv_has ls 10 [(0, .ref (o 0)), (1, .int x1), (2, .int x2), (3, .int x3), (4, .long x4), (6, .int x6)] → mw D dA o A s S H locs → W p l e rM_bring s m args below meth c H locs 0 0 (mQi below args s D dA o A post) (F0 m 10 ls [])) (hT22 : ∀ (x1 : Int32) (x2 : Int32) (x3 : Int32) (x4 : Int64) (x6 : Int32) (x7 : Int32) (S : MS), T22 x1 x2 x3 x4 x6 x7 S → ∀ (H : Heap) (locs : List Loc) (ls : Array Slot), lv_has ls 10 [(0, .ref (o 0)), (1, .int x1), (2, .int x2), (3, .int x3), (4, .long x4), (6, .int x6), (7, .int x7)] → mw D dA o A s S H locs → W p l e rM_bring s m args below meth c H locs 0 0 (mQi below args s D dA o A post) (F0 m 22 ls [])) (hT111 : ∀ (x1 : Int32) (x2 : Int32) (x3 : Int32) (x6 : Int32) (S : MS), T111 x1 x2 x3 x6 S → ∀ (H : Heap) (locs : List Loc) (ls : Array Slot), lv_has ls 10 [(0, .ref (o 0)), (1, .int x1), (2, .int x2), (3, .int x3), (6, .int x6)] → mw D dA o A s S H locs → W p l e rM_bring s m args below meth c H locs 0 0 (mQi below args s D dA o A post) (F0 m 111 ls [])) (hT176 : ∀ (x1 : Int32) (x2 : Int32) (x3 : Int32) (x6 : Int32) (S : MS), T176 x1 x2 x3 x6 S → ∀ (H : Heap) (locs : List Loc) (ls : Array Slot), lv_has ls 10 [(0, .ref (o 0)), (1, .int x1), (2, .int x2), (3, .int x3), (6, .int x6)] → mw D dA o A s S H locs → W p l e rM_bring s m args below meth c H locs 0 0 (mQi below args s D dA o A post) (F0 m 176 ls [])) {v0 : Int32} {S : MS} (h : M_bring_w248 post T10 T22 T111 T176 v0 S) {H : Heap} {locs : List Loc} {ls : Array Slot} (hl : lv_has ls 10 [(0, .ref (o 0))]) (w : mw D dA o A s S H locs) : W p l e rM_bring s m args below meth c H locs 0 0 (mQi below args s D dA o A post) (F0 m 248 ls [.int v0]) := by
  unfold M_bring_w248 at h
  obtain ⟨⟨hx, hb, hml, hown, hts⟩, hr, hlk, hA⟩ := id C
  exact mr_zret C w (zok_n h.1) h.2 dX5_bring_248
def M_bring_w238 (post : Int32 → MS → Prop) (T10 : Int32 → Int32 → Int32 → Int64 → Int32 → MS → Prop) (T22 : Int32 → Int32 → Int32 → Int64 → Int32 → Int32 → MS → Prop) (T111 : Int32 → Int32 → Int32 → Int32 → MS → Prop) (T176 : Int32 → Int32 → Int32 → Int32 → MS → Prop) (x2 : Int32) (S : MS) : Prop :=
  ((x2 = (-1 : Int32) → M_bring_w248 post T10 T22 T111 T176 (0 : Int32) S) ∧ (¬ x2 = (-1 : Int32) → M_bring_w248 post T10 T22 T111 T176 (1 : Int32) S))
set_option maxHeartbeats 4000000 in
set_option maxRecDepth 100000 in
theorem M_bring_a238 {p : Program} {l : Launch} {e : Env} {s : State} {m : MethodId} {args : Array Value} {below : List Frame} {meth : Method} {c : Code} {D : va_G} {dA : Nat → ClassId} {o : Nat → Nat} {A : Nat → Prop} {post : Int32 → MS → Prop} {T10 : Int32 → Int32 → Int32 → Int64 → Int32 → MS → Prop} {T22 : Int32 → Int32 → Int32 → Int64 → Int32 → Int32 → MS → Prop} {T111 : Int32 → Int32 → Int32 → Int32 → MS → Prop} {T176 : Int32 → Int32 → Int32 → Int32 → MS → Prop} (C : mC p m c cX5_bring 10 s args meth (Option.some Jvm.ClassFile.FieldType.boolean) A) (hT10 : ∀ (x1 : Int32) (x2 : Int32) (x3 : Int32) (x4 : Int64) (x6 : Int32) (S : MS), T10 x1 x2 x3 x4 x6 S → ∀ (H : Heap) (locs : List Loc) (ls : Array Slot), lv_has ls 10 [(0, .ref (o 0)), (1, .int x1), (2, .int x2), (3, .int x3), (4, .long x4), (6, .int x6)] → mw D dA o A s S H locs → W p l e rM_bring s m args below meth c H locs 0 0 (mQi below args s D dA o A post) (F0 m 10 ls [])) (hT22 : ∀ (x1 : Int32) (x2 : Int32) (x3 : Int32) (x4 : Int64) (x6 : Int32) (x7 : Int32) (S : MS), T22 x1 x2 x3 x4 x6 x7 S → ∀ (H : Heap) (locs : List Loc) (ls : Array Slot), lv_has ls 10 [(0, .ref (o 0)), (1, .int x1), (2, .int x2), (3, .int x3), (4, .long x4), (6, .int x6), (7, .int x7)] → mw D dA o A s S H locs → W p l e rM_bring s m args below meth c H locs 0 0 (mQi below args s D dA o A post) (F0 m 22 ls [])) (hT111 : ∀ (x1 : Int32) (x2 : Int32) (x3 : Int32) (x6 : Int32) (S : MS), T111 x1 x2 x3 x6 S → ∀ (H : Heap) (locs : List Loc) (ls : Array Slot), lv_has ls 10 [(0, .ref (o 0)), (1, .int x1), (2, .int x2), (3, .int x3), (6, .int x6)] → mw D dA o A s S H locs → W p l e rM_bring s m args below meth c H locs 0 0 (mQi below args s D dA o A post) (F0 m 111 ls [])) (hT176 : ∀ (x1 : Int32) (x2 : Int32) (x3 : Int32) (x6 : Int32) (S : MS), T176 x1 x2 x3 x6 S → ∀ (H : Heap) (locs : List Loc) (ls : Array Slot), lv_has ls 10 [(0, .ref (o 0)), (1, .int x1), (2, .int x2), (3, .int x3), (6, .int x6)] → mw D dA o A s S H locs → W p l e rM_bring s m args below meth c H locs 0 0 (mQi below args s D dA o A post) (F0 m 176 ls [])) {x2 : Int32} {S : MS} (h : M_bring_w238 post T10 T22 T111 T176 x2 S) {H : Heap} {locs : List Loc} {ls : Array Slot} (hl : lv_has ls 10 [(0, .ref (o 0)), (2, .int x2)]) (w : mw D dA o A s S H locs) : W p l e rM_bring s m args below meth c H locs 0 0 (mQi below args s D dA o A post) (F0 m 238 ls []) := by
  unfold M_bring_w238 at h
  obtain ⟨⟨hx, hb, hml, hown, hts⟩, hr, hlk, hA⟩ := id C
  refine lv_iload_n hx hb dX5_bring_238 rfl (lv_at hl 1 rfl) ?_
  refine lv_iconst (v := -1) hx hb dX5_bring_239 (by decide) ?_
  obtain ⟨h1, h2⟩ := h
  refine lv_icmp_eq (tgt := 247) hx hb dX5_bring_240 (by decide) (fun c1 => ?_) (fun c1 => ?_)
  · have h := h1 c1
    refine lv_iconst (v := 0) hx hb dX5_bring_247 (by decide) ?_
    exact M_bring_a248 C hT10 hT22 hT111 hT176 h (lv_sub hl [0] rfl) w
  · have h := h2 c1
    refine lv_iconst (v := 1) hx hb dX5_bring_243 (by decide) ?_
    refine lv_goto (tgt := 248) hx hb dX5_bring_244 (by decide) ?_
    exact M_bring_a248 C hT10 hT22 hT111 hT176 h (lv_sub hl [0] rfl) w
def M_bring_w176 (post : Int32 → MS → Prop) (T10 : Int32 → Int32 → Int32 → Int64 → Int32 → MS → Prop) (T22 : Int32 → Int32 → Int32 → Int64 → Int32 → Int32 → MS → Prop) (T111 : Int32 → Int32 → Int32 → Int32 → MS → Prop) (T176 : Int32 → Int32 → Int32 → Int32 → MS → Prop) (x1 : Int32) (x2 : Int32) (x3 : Int32) (x6 : Int32) (S : MS) : Prop :=
  (((gF S 11) ≤ x6 → M_bring_w238 post T10 T22 T111 T176 x2 S) ∧ (¬ (gF S 11) ≤ x6 → ((x2 = (-1 : Int32) → M_bring_w238 post T10 T22 T111 T176 x2 S) ∧ (¬ x2 = (-1 : Int32) → M_cell x6 x3 S (fun (r1 : Int64) (S1 : MS) => M_cell x6 x1 S1 (fun (r2 : Int64) (S2 : MS) => (vp_in (((6 : Int32) * x6) + x3) 108 ∧ (fun (S3 : MS) => (vp_in (((6 : Int32) * x6) + x1) 108 ∧ (fun (S4 : MS) => T176 x1 x2 x3 (x6 + (1 : Int32)) S4) (sL S3 ((((6 : Int32) * x6) + x1)).toNatClampNeg r1))) (sL S2 ((((6 : Int32) * x6) + x3)).toNatClampNeg r2))))))))
set_option maxHeartbeats 4000000 in
set_option maxRecDepth 100000 in
theorem M_bring_a176 {p : Program} {l : Launch} {e : Env} {s : State} {m : MethodId} {args : Array Value} {below : List Frame} {meth : Method} {c : Code} {D : va_G} {dA : Nat → ClassId} {o : Nat → Nat} {A : Nat → Prop} {post : Int32 → MS → Prop} {T10 : Int32 → Int32 → Int32 → Int64 → Int32 → MS → Prop} {T22 : Int32 → Int32 → Int32 → Int64 → Int32 → Int32 → MS → Prop} {T111 : Int32 → Int32 → Int32 → Int32 → MS → Prop} {T176 : Int32 → Int32 → Int32 → Int32 → MS → Prop} (C : mC p m c cX5_bring 10 s args meth (Option.some Jvm.ClassFile.FieldType.boolean) A) (hT10 : ∀ (x1 : Int32) (x2 : Int32) (x3 : Int32) (x4 : Int64) (x6 : Int32) (S : MS), T10 x1 x2 x3 x4 x6 S → ∀ (H : Heap) (locs : List Loc) (ls : Array Slot), lv_has ls 10 [(0, .ref (o 0)), (1, .int x1), (2, .int x2), (3, .int x3), (4, .long x4), (6, .int x6)] → mw D dA o A s S H locs → W p l e rM_bring s m args below meth c H locs 0 0 (mQi below args s D dA o A post) (F0 m 10 ls [])) (hT22 : ∀ (x1 : Int32) (x2 : Int32) (x3 : Int32) (x4 : Int64) (x6 : Int32) (x7 : Int32) (S : MS), T22 x1 x2 x3 x4 x6 x7 S → ∀ (H : Heap) (locs : List Loc) (ls : Array Slot), lv_has ls 10 [(0, .ref (o 0)), (1, .int x1), (2, .int x2), (3, .int x3), (4, .long x4), (6, .int x6), (7, .int x7)] → mw D dA o A s S H locs → W p l e rM_bring s m args below meth c H locs 0 0 (mQi below args s D dA o A post) (F0 m 22 ls [])) (hT111 : ∀ (x1 : Int32) (x2 : Int32) (x3 : Int32) (x6 : Int32) (S : MS), T111 x1 x2 x3 x6 S → ∀ (H : Heap) (locs : List Loc) (ls : Array Slot), lv_has ls 10 [(0, .ref (o 0)), (1, .int x1), (2, .int x2), (3, .int x3), (6, .int x6)] → mw D dA o A s S H locs → W p l e rM_bring s m args below meth c H locs 0 0 (mQi below args s D dA o A post) (F0 m 111 ls [])) (hT176 : ∀ (x1 : Int32) (x2 : Int32) (x3 : Int32) (x6 : Int32) (S : MS), T176 x1 x2 x3 x6 S → ∀ (H : Heap) (locs : List Loc) (ls : Array Slot), lv_has ls 10 [(0, .ref (o 0)), (1, .int x1), (2, .int x2), (3, .int x3), (6, .int x6)] → mw D dA o A s S H locs → W p l e rM_bring s m args below meth c H locs 0 0 (mQi below args s D dA o A post) (F0 m 176 ls [])) {x1 : Int32} {x2 : Int32} {x3 : Int32} {x6 : Int32} {S : MS} (h : M_bring_w176 post T10 T22 T111 T176 x1 x2 x3 x6 S) {H : Heap} {locs : List Loc} {ls : Array Slot} (hl : lv_has ls 10 [(0, .ref (o 0)), (1, .int x1), (2, .int x2), (3, .int x3), (6, .int x6)]) (w : mw D dA o A s S H locs) : W p l e rM_bring s m args below meth c H locs 0 0 (mQi below args s D dA o A post) (F0 m 176 ls []) := by
  unfold M_bring_w176 at h
  obtain ⟨⟨hx, hb, hml, hown, hts⟩, hr, hlk, hA⟩ := id C
  refine lv_iload hx hb dX5_bring_176 (lv_at hl 4 rfl) ?_
  refine lv_aload_n hx hb dX5_bring_178 rfl (lv_at hl 0 rfl) ?_
  refine mr_get C w 11 (by decide) q588 rfl rfl dX5_bring_179 ?_
  obtain ⟨h1, h2⟩ := h
  refine lv_icmp_ge (tgt := 238) hx hb dX5_bring_182 (by decide) (fun c1 => ?_) (fun c1 => ?_)
  · have h := h1 c1
    exact M_bring_a238 C hT10 hT22 hT111 hT176 h (lv_sub hl [0, 2] rfl) w
  · have h := h2 c1
    refine lv_iload_n hx hb dX5_bring_185 rfl (lv_at hl 2 rfl) ?_
    refine lv_iconst (v := -1) hx hb dX5_bring_186 (by decide) ?_
    obtain ⟨h1, h2⟩ := h
    refine lv_icmp_eq (tgt := 238) hx hb dX5_bring_187 (by decide) (fun c1 => ?_) (fun c1 => ?_)
    · have h := h1 c1
      exact M_bring_a238 C hT10 hT22 hT111 hT176 h (lv_sub hl [0, 2] rfl) w
    · have h := h2 c1
      refine lv_aload_n hx hb dX5_bring_190 rfl (lv_at hl 0 rfl) ?_
      refine lv_iload hx hb dX5_bring_191 (lv_at hl 4 rfl) ?_
      refine lv_iload_n hx hb dX5_bring_193 rfl (lv_at hl 3 rfl) ?_
      refine mr_callVL (rest := []) C w h (lw_V q808 q810 qs60 q87 q811) M_cell_d rfl rfl ⟨Nat.le_of_ble_eq_true rfl, Nat.le_of_ble_eq_true rfl⟩ rfl hl.1 rfl (Nat.le_of_ble_eq_true rfl) ⟨Nat.zero_le _, Nat.zero_le _⟩ dX5_bring_194 (fun r1 S1 H locs h w => ?_)
      refine lv_lstore (lv' := [(7, .long _), (0, .ref _), (1, .int _), (2, .int _), (3, .int _), (6, .int _)]) hx hb dX5_bring_197 hl (by decide) rfl (fun ls hl => ?_)
      refine lv_aload_n hx hb dX5_bring_199 rfl (lv_at hl 1 rfl) ?_
      refine mr_get C w 10 (by decide) q587 rfl rfl dX5_bring_200 ?_
      refine lv_bipush (v := 6) hx hb dX5_bring_203 (by decide) ?_
      refine lv_iload hx hb dX5_bring_205 (lv_at hl 5 rfl) ?_
      refine lv_imul hx hb dX5_bring_207 ?_
      refine lv_iload_n hx hb dX5_bring_208 rfl (lv_at hl 4 rfl) ?_
      refine lv_iadd hx hb dX5_bring_209 ?_
      refine lv_aload_n hx hb dX5_bring_210 rfl (lv_at hl 1 rfl) ?_
      refine lv_iload hx hb dX5_bring_211 (lv_at hl 5 rfl) ?_
      refine lv_iload_n hx hb dX5_bring_213 rfl (lv_at hl 2 rfl) ?_
      refine mr_callVL (rest := [.int _, .ref _]) C w h (lw_V q808 q810 qs60 q87 q811) M_cell_d rfl rfl ⟨Nat.le_of_ble_eq_true rfl, Nat.le_of_ble_eq_true rfl⟩ rfl hl.1 rfl (Nat.le_of_ble_eq_true rfl) ⟨Nat.zero_le _, Nat.zero_le _⟩ dX5_bring_214 (fun r2 S2 H locs h w => ?_)
      obtain ⟨hi, h⟩ := h
      refine mr_last C w hi dX5_bring_217 (fun H locs w => ?_)
      refine lv_aload_n hx hb dX5_bring_218 rfl (lv_at hl 1 rfl) ?_
      refine mr_get C w 10 (by decide) q587 rfl rfl dX5_bring_219 ?_
      refine lv_bipush (v := 6) hx hb dX5_bring_222 (by decide) ?_
      refine lv_iload hx hb dX5_bring_224 (lv_at hl 5 rfl) ?_
      refine lv_imul hx hb dX5_bring_226 ?_
      refine lv_iload_n hx hb dX5_bring_227 rfl (lv_at hl 2 rfl) ?_
      refine lv_iadd hx hb dX5_bring_228 ?_
      refine lv_lload hx hb dX5_bring_229 (lv_at hl 0 rfl) ?_
      obtain ⟨hi, h⟩ := h
      refine mr_last C w hi dX5_bring_231 (fun H locs w => ?_)
      refine lv_iinc (v := _ + (1 : Int32)) (lv' := [(6, .int _), (7, .long _), (0, .ref _), (1, .int _), (2, .int _), (3, .int _)]) hx hb dX5_bring_232 hl (k := 5) rfl rfl (by decide) rfl (fun ls hl => ?_)
      refine lv_goto (tgt := 176) hx hb dX5_bring_235 (by decide) ?_
      exact hT176 _ _ _ _ _ h _ _ _ (lv_sub hl [2, 3, 4, 5, 0] rfl) w
def M_bring_w173 (post : Int32 → MS → Prop) (T10 : Int32 → Int32 → Int32 → Int64 → Int32 → MS → Prop) (T22 : Int32 → Int32 → Int32 → Int64 → Int32 → Int32 → MS → Prop) (T111 : Int32 → Int32 → Int32 → Int32 → MS → Prop) (T176 : Int32 → Int32 → Int32 → Int32 → MS → Prop) (x1 : Int32) (x2 : Int32) (x3 : Int32) (S : MS) : Prop :=
  T176 x1 x2 x3 (0 : Int32) S
set_option maxHeartbeats 4000000 in
set_option maxRecDepth 100000 in
theorem M_bring_a173 {p : Program} {l : Launch} {e : Env} {s : State} {m : MethodId} {args : Array Value} {below : List Frame} {meth : Method} {c : Code} {D : va_G} {dA : Nat → ClassId} {o : Nat → Nat} {A : Nat → Prop} {post : Int32 → MS → Prop} {T10 : Int32 → Int32 → Int32 → Int64 → Int32 → MS → Prop} {T22 : Int32 → Int32 → Int32 → Int64 → Int32 → Int32 → MS → Prop} {T111 : Int32 → Int32 → Int32 → Int32 → MS → Prop} {T176 : Int32 → Int32 → Int32 → Int32 → MS → Prop} (C : mC p m c cX5_bring 10 s args meth (Option.some Jvm.ClassFile.FieldType.boolean) A) (hT10 : ∀ (x1 : Int32) (x2 : Int32) (x3 : Int32) (x4 : Int64) (x6 : Int32) (S : MS), T10 x1 x2 x3 x4 x6 S → ∀ (H : Heap) (locs : List Loc) (ls : Array Slot), lv_has ls 10 [(0, .ref (o 0)), (1, .int x1), (2, .int x2), (3, .int x3), (4, .long x4), (6, .int x6)] → mw D dA o A s S H locs → W p l e rM_bring s m args below meth c H locs 0 0 (mQi below args s D dA o A post) (F0 m 10 ls [])) (hT22 : ∀ (x1 : Int32) (x2 : Int32) (x3 : Int32) (x4 : Int64) (x6 : Int32) (x7 : Int32) (S : MS), T22 x1 x2 x3 x4 x6 x7 S → ∀ (H : Heap) (locs : List Loc) (ls : Array Slot), lv_has ls 10 [(0, .ref (o 0)), (1, .int x1), (2, .int x2), (3, .int x3), (4, .long x4), (6, .int x6), (7, .int x7)] → mw D dA o A s S H locs → W p l e rM_bring s m args below meth c H locs 0 0 (mQi below args s D dA o A post) (F0 m 22 ls [])) (hT111 : ∀ (x1 : Int32) (x2 : Int32) (x3 : Int32) (x6 : Int32) (S : MS), T111 x1 x2 x3 x6 S → ∀ (H : Heap) (locs : List Loc) (ls : Array Slot), lv_has ls 10 [(0, .ref (o 0)), (1, .int x1), (2, .int x2), (3, .int x3), (6, .int x6)] → mw D dA o A s S H locs → W p l e rM_bring s m args below meth c H locs 0 0 (mQi below args s D dA o A post) (F0 m 111 ls [])) (hT176 : ∀ (x1 : Int32) (x2 : Int32) (x3 : Int32) (x6 : Int32) (S : MS), T176 x1 x2 x3 x6 S → ∀ (H : Heap) (locs : List Loc) (ls : Array Slot), lv_has ls 10 [(0, .ref (o 0)), (1, .int x1), (2, .int x2), (3, .int x3), (6, .int x6)] → mw D dA o A s S H locs → W p l e rM_bring s m args below meth c H locs 0 0 (mQi below args s D dA o A post) (F0 m 176 ls [])) {x1 : Int32} {x2 : Int32} {x3 : Int32} {S : MS} (h : M_bring_w173 post T10 T22 T111 T176 x1 x2 x3 S) {H : Heap} {locs : List Loc} {ls : Array Slot} (hl : lv_has ls 10 [(0, .ref (o 0)), (1, .int x1), (2, .int x2), (3, .int x3)]) (w : mw D dA o A s S H locs) : W p l e rM_bring s m args below meth c H locs 0 0 (mQi below args s D dA o A post) (F0 m 173 ls []) := by
  unfold M_bring_w173 at h
  obtain ⟨⟨hx, hb, hml, hown, hts⟩, hr, hlk, hA⟩ := id C
  refine lv_iconst (v := 0) hx hb dX5_bring_173 (by decide) ?_
  refine lv_istore (lv' := [(6, .int _), (0, .ref _), (1, .int _), (2, .int _), (3, .int _)]) hx hb dX5_bring_174 hl (by decide) rfl (fun ls hl => ?_)
  exact hT176 _ _ _ _ _ h _ _ _ (lv_sub hl [1, 2, 3, 4, 0] rfl) w
def M_bring_w111 (post : Int32 → MS → Prop) (T10 : Int32 → Int32 → Int32 → Int64 → Int32 → MS → Prop) (T22 : Int32 → Int32 → Int32 → Int64 → Int32 → Int32 → MS → Prop) (T111 : Int32 → Int32 → Int32 → Int32 → MS → Prop) (T176 : Int32 → Int32 → Int32 → Int32 → MS → Prop) (x1 : Int32) (x2 : Int32) (x3 : Int32) (x6 : Int32) (S : MS) : Prop :=
  (((gF S 12) ≤ x6 → M_bring_w173 post T10 T22 T111 T176 x1 x2 x3 S) ∧ (¬ (gF S 12) ≤ x6 → ((x2 = (-1 : Int32) → M_bring_w173 post T10 T22 T111 T176 x1 x2 x3 S) ∧ (¬ x2 = (-1 : Int32) → M_cell x2 x6 S (fun (r1 : Int64) (S1 : MS) => M_cell x1 x6 S1 (fun (r2 : Int64) (S2 : MS) => (vp_in (((6 : Int32) * x2) + x6) 108 ∧ (fun (S3 : MS) => (vp_in (((6 : Int32) * x1) + x6) 108 ∧ (fun (S4 : MS) => T111 x1 x2 x3 (x6 + (1 : Int32)) S4) (sL S3 ((((6 : Int32) * x1) + x6)).toNatClampNeg r1))) (sL S2 ((((6 : Int32) * x2) + x6)).toNatClampNeg r2))))))))
set_option maxHeartbeats 4000000 in
set_option maxRecDepth 100000 in
theorem M_bring_a111 {p : Program} {l : Launch} {e : Env} {s : State} {m : MethodId} {args : Array Value} {below : List Frame} {meth : Method} {c : Code} {D : va_G} {dA : Nat → ClassId} {o : Nat → Nat} {A : Nat → Prop} {post : Int32 → MS → Prop} {T10 : Int32 → Int32 → Int32 → Int64 → Int32 → MS → Prop} {T22 : Int32 → Int32 → Int32 → Int64 → Int32 → Int32 → MS → Prop} {T111 : Int32 → Int32 → Int32 → Int32 → MS → Prop} {T176 : Int32 → Int32 → Int32 → Int32 → MS → Prop} (C : mC p m c cX5_bring 10 s args meth (Option.some Jvm.ClassFile.FieldType.boolean) A) (hT10 : ∀ (x1 : Int32) (x2 : Int32) (x3 : Int32) (x4 : Int64) (x6 : Int32) (S : MS), T10 x1 x2 x3 x4 x6 S → ∀ (H : Heap) (locs : List Loc) (ls : Array Slot), lv_has ls 10 [(0, .ref (o 0)), (1, .int x1), (2, .int x2), (3, .int x3), (4, .long x4), (6, .int x6)] → mw D dA o A s S H locs → W p l e rM_bring s m args below meth c H locs 0 0 (mQi below args s D dA o A post) (F0 m 10 ls [])) (hT22 : ∀ (x1 : Int32) (x2 : Int32) (x3 : Int32) (x4 : Int64) (x6 : Int32) (x7 : Int32) (S : MS), T22 x1 x2 x3 x4 x6 x7 S → ∀ (H : Heap) (locs : List Loc) (ls : Array Slot), lv_has ls 10 [(0, .ref (o 0)), (1, .int x1), (2, .int x2), (3, .int x3), (4, .long x4), (6, .int x6), (7, .int x7)] → mw D dA o A s S H locs → W p l e rM_bring s m args below meth c H locs 0 0 (mQi below args s D dA o A post) (F0 m 22 ls [])) (hT111 : ∀ (x1 : Int32) (x2 : Int32) (x3 : Int32) (x6 : Int32) (S : MS), T111 x1 x2 x3 x6 S → ∀ (H : Heap) (locs : List Loc) (ls : Array Slot), lv_has ls 10 [(0, .ref (o 0)), (1, .int x1), (2, .int x2), (3, .int x3), (6, .int x6)] → mw D dA o A s S H locs → W p l e rM_bring s m args below meth c H locs 0 0 (mQi below args s D dA o A post) (F0 m 111 ls [])) (hT176 : ∀ (x1 : Int32) (x2 : Int32) (x3 : Int32) (x6 : Int32) (S : MS), T176 x1 x2 x3 x6 S → ∀ (H : Heap) (locs : List Loc) (ls : Array Slot), lv_has ls 10 [(0, .ref (o 0)), (1, .int x1), (2, .int x2), (3, .int x3), (6, .int x6)] → mw D dA o A s S H locs → W p l e rM_bring s m args below meth c H locs 0 0 (mQi below args s D dA o A post) (F0 m 176 ls [])) {x1 : Int32} {x2 : Int32} {x3 : Int32} {x6 : Int32} {S : MS} (h : M_bring_w111 post T10 T22 T111 T176 x1 x2 x3 x6 S) {H : Heap} {locs : List Loc} {ls : Array Slot} (hl : lv_has ls 10 [(0, .ref (o 0)), (1, .int x1), (2, .int x2), (3, .int x3), (6, .int x6)]) (w : mw D dA o A s S H locs) : W p l e rM_bring s m args below meth c H locs 0 0 (mQi below args s D dA o A post) (F0 m 111 ls []) := by
  unfold M_bring_w111 at h
  obtain ⟨⟨hx, hb, hml, hown, hts⟩, hr, hlk, hA⟩ := id C
  refine lv_iload hx hb dX5_bring_111 (lv_at hl 4 rfl) ?_
  refine lv_aload_n hx hb dX5_bring_113 rfl (lv_at hl 0 rfl) ?_
  refine mr_get C w 12 (by decide) q589 rfl rfl dX5_bring_114 ?_
  obtain ⟨h1, h2⟩ := h
  refine lv_icmp_ge (tgt := 173) hx hb dX5_bring_117 (by decide) (fun c1 => ?_) (fun c1 => ?_)
  · have h := h1 c1
    exact M_bring_a173 C hT10 hT22 hT111 hT176 h (lv_sub hl [0, 1, 2, 3] rfl) w
  · have h := h2 c1
    refine lv_iload_n hx hb dX5_bring_120 rfl (lv_at hl 2 rfl) ?_
    refine lv_iconst (v := -1) hx hb dX5_bring_121 (by decide) ?_
    obtain ⟨h1, h2⟩ := h
    refine lv_icmp_eq (tgt := 173) hx hb dX5_bring_122 (by decide) (fun c1 => ?_) (fun c1 => ?_)
    · have h := h1 c1
      exact M_bring_a173 C hT10 hT22 hT111 hT176 h (lv_sub hl [0, 1, 2, 3] rfl) w
    · have h := h2 c1
      refine lv_aload_n hx hb dX5_bring_125 rfl (lv_at hl 0 rfl) ?_
      refine lv_iload_n hx hb dX5_bring_126 rfl (lv_at hl 2 rfl) ?_
      refine lv_iload hx hb dX5_bring_127 (lv_at hl 4 rfl) ?_
      refine mr_callVL (rest := []) C w h (lw_V q808 q810 qs60 q87 q811) M_cell_d rfl rfl ⟨Nat.le_of_ble_eq_true rfl, Nat.le_of_ble_eq_true rfl⟩ rfl hl.1 rfl (Nat.le_of_ble_eq_true rfl) ⟨Nat.zero_le _, Nat.zero_le _⟩ dX5_bring_129 (fun r1 S1 H locs h w => ?_)
      refine lv_lstore (lv' := [(7, .long _), (0, .ref _), (1, .int _), (2, .int _), (3, .int _), (6, .int _)]) hx hb dX5_bring_132 hl (by decide) rfl (fun ls hl => ?_)
      refine lv_aload_n hx hb dX5_bring_134 rfl (lv_at hl 1 rfl) ?_
      refine mr_get C w 10 (by decide) q587 rfl rfl dX5_bring_135 ?_
      refine lv_bipush (v := 6) hx hb dX5_bring_138 (by decide) ?_
      refine lv_iload_n hx hb dX5_bring_140 rfl (lv_at hl 3 rfl) ?_
      refine lv_imul hx hb dX5_bring_141 ?_
      refine lv_iload hx hb dX5_bring_142 (lv_at hl 5 rfl) ?_
      refine lv_iadd hx hb dX5_bring_144 ?_
      refine lv_aload_n hx hb dX5_bring_145 rfl (lv_at hl 1 rfl) ?_
      refine lv_iload_n hx hb dX5_bring_146 rfl (lv_at hl 2 rfl) ?_
      refine lv_iload hx hb dX5_bring_147 (lv_at hl 5 rfl) ?_
      refine mr_callVL (rest := [.int _, .ref _]) C w h (lw_V q808 q810 qs60 q87 q811) M_cell_d rfl rfl ⟨Nat.le_of_ble_eq_true rfl, Nat.le_of_ble_eq_true rfl⟩ rfl hl.1 rfl (Nat.le_of_ble_eq_true rfl) ⟨Nat.zero_le _, Nat.zero_le _⟩ dX5_bring_149 (fun r2 S2 H locs h w => ?_)
      obtain ⟨hi, h⟩ := h
      refine mr_last C w hi dX5_bring_152 (fun H locs w => ?_)
      refine lv_aload_n hx hb dX5_bring_153 rfl (lv_at hl 1 rfl) ?_
      refine mr_get C w 10 (by decide) q587 rfl rfl dX5_bring_154 ?_
      refine lv_bipush (v := 6) hx hb dX5_bring_157 (by decide) ?_
      refine lv_iload_n hx hb dX5_bring_159 rfl (lv_at hl 2 rfl) ?_
      refine lv_imul hx hb dX5_bring_160 ?_
      refine lv_iload hx hb dX5_bring_161 (lv_at hl 5 rfl) ?_
      refine lv_iadd hx hb dX5_bring_163 ?_
      refine lv_lload hx hb dX5_bring_164 (lv_at hl 0 rfl) ?_
      obtain ⟨hi, h⟩ := h
      refine mr_last C w hi dX5_bring_166 (fun H locs w => ?_)
      refine lv_iinc (v := _ + (1 : Int32)) (lv' := [(6, .int _), (7, .long _), (0, .ref _), (1, .int _), (2, .int _), (3, .int _)]) hx hb dX5_bring_167 hl (k := 5) rfl rfl (by decide) rfl (fun ls hl => ?_)
      refine lv_goto (tgt := 111) hx hb dX5_bring_170 (by decide) ?_
      exact hT111 _ _ _ _ _ h _ _ _ (lv_sub hl [2, 3, 4, 5, 0] rfl) w
def M_bring_w96 (post : Int32 → MS → Prop) (T10 : Int32 → Int32 → Int32 → Int64 → Int32 → MS → Prop) (T22 : Int32 → Int32 → Int32 → Int64 → Int32 → Int32 → MS → Prop) (T111 : Int32 → Int32 → Int32 → Int32 → MS → Prop) (T176 : Int32 → Int32 → Int32 → Int32 → MS → Prop) (x1 : Int32) (x2 : Int32) (x3 : Int32) (x4 : Int64) (x6 : Int32) (x7 : Int32) (S : MS) : Prop :=
  T22 x1 x2 x3 x4 x6 (x7 + (1 : Int32)) S
set_option maxHeartbeats 4000000 in
set_option maxRecDepth 100000 in
theorem M_bring_a96 {p : Program} {l : Launch} {e : Env} {s : State} {m : MethodId} {args : Array Value} {below : List Frame} {meth : Method} {c : Code} {D : va_G} {dA : Nat → ClassId} {o : Nat → Nat} {A : Nat → Prop} {post : Int32 → MS → Prop} {T10 : Int32 → Int32 → Int32 → Int64 → Int32 → MS → Prop} {T22 : Int32 → Int32 → Int32 → Int64 → Int32 → Int32 → MS → Prop} {T111 : Int32 → Int32 → Int32 → Int32 → MS → Prop} {T176 : Int32 → Int32 → Int32 → Int32 → MS → Prop} (C : mC p m c cX5_bring 10 s args meth (Option.some Jvm.ClassFile.FieldType.boolean) A) (hT10 : ∀ (x1 : Int32) (x2 : Int32) (x3 : Int32) (x4 : Int64) (x6 : Int32) (S : MS), T10 x1 x2 x3 x4 x6 S → ∀ (H : Heap) (locs : List Loc) (ls : Array Slot), lv_has ls 10 [(0, .ref (o 0)), (1, .int x1), (2, .int x2), (3, .int x3), (4, .long x4), (6, .int x6)] → mw D dA o A s S H locs → W p l e rM_bring s m args below meth c H locs 0 0 (mQi below args s D dA o A post) (F0 m 10 ls [])) (hT22 : ∀ (x1 : Int32) (x2 : Int32) (x3 : Int32) (x4 : Int64) (x6 : Int32) (x7 : Int32) (S : MS), T22 x1 x2 x3 x4 x6 x7 S → ∀ (H : Heap) (locs : List Loc) (ls : Array Slot), lv_has ls 10 [(0, .ref (o 0)), (1, .int x1), (2, .int x2), (3, .int x3), (4, .long x4), (6, .int x6), (7, .int x7)] → mw D dA o A s S H locs → W p l e rM_bring s m args below meth c H locs 0 0 (mQi below args s D dA o A post) (F0 m 22 ls [])) (hT111 : ∀ (x1 : Int32) (x2 : Int32) (x3 : Int32) (x6 : Int32) (S : MS), T111 x1 x2 x3 x6 S → ∀ (H : Heap) (locs : List Loc) (ls : Array Slot), lv_has ls 10 [(0, .ref (o 0)), (1, .int x1), (2, .int x2), (3, .int x3), (6, .int x6)] → mw D dA o A s S H locs → W p l e rM_bring s m args below meth c H locs 0 0 (mQi below args s D dA o A post) (F0 m 111 ls [])) (hT176 : ∀ (x1 : Int32) (x2 : Int32) (x3 : Int32) (x6 : Int32) (S : MS), T176 x1 x2 x3 x6 S → ∀ (H : Heap) (locs : List Loc) (ls : Array Slot), lv_has ls 10 [(0, .ref (o 0)), (1, .int x1), (2, .int x2), (3, .int x3), (6, .int x6)] → mw D dA o A s S H locs → W p l e rM_bring s m args below meth c H locs 0 0 (mQi below args s D dA o A post) (F0 m 176 ls [])) {x1 : Int32} {x2 : Int32} {x3 : Int32} {x4 : Int64} {x6 : Int32} {x7 : Int32} {S : MS} (h : M_bring_w96 post T10 T22 T111 T176 x1 x2 x3 x4 x6 x7 S) {H : Heap} {locs : List Loc} {ls : Array Slot} (hl : lv_has ls 10 [(0, .ref (o 0)), (1, .int x1), (2, .int x2), (3, .int x3), (4, .long x4), (6, .int x6), (7, .int x7)]) (w : mw D dA o A s S H locs) : W p l e rM_bring s m args below meth c H locs 0 0 (mQi below args s D dA o A post) (F0 m 96 ls []) := by
  unfold M_bring_w96 at h
  obtain ⟨⟨hx, hb, hml, hown, hts⟩, hr, hlk, hA⟩ := id C
  refine lv_iinc (v := _ + (1 : Int32)) (lv' := [(7, .int _), (0, .ref _), (1, .int _), (2, .int _), (3, .int _), (4, .long _), (6, .int _)]) hx hb dX5_bring_96 hl (k := 6) rfl rfl (by decide) rfl (fun ls hl => ?_)
  refine lv_goto (tgt := 22) hx hb dX5_bring_99 (by decide) ?_
  exact hT22 _ _ _ _ _ _ _ h _ _ _ (lv_sub hl [1, 2, 3, 4, 5, 6, 0] rfl) w
def M_bring_w86 (post : Int32 → MS → Prop) (T10 : Int32 → Int32 → Int32 → Int64 → Int32 → MS → Prop) (T22 : Int32 → Int32 → Int32 → Int64 → Int32 → Int32 → MS → Prop) (T111 : Int32 → Int32 → Int32 → Int32 → MS → Prop) (T176 : Int32 → Int32 → Int32 → Int32 → MS → Prop) (x1 : Int32) (x6 : Int32) (x7 : Int32) (x8 : Int64) (S : MS) : Prop :=
  M_bring_w96 post T10 T22 T111 T176 x1 x6 x7 x8 x6 x7 S
set_option maxHeartbeats 4000000 in
set_option maxRecDepth 100000 in
theorem M_bring_a86 {p : Program} {l : Launch} {e : Env} {s : State} {m : MethodId} {args : Array Value} {below : List Frame} {meth : Method} {c : Code} {D : va_G} {dA : Nat → ClassId} {o : Nat → Nat} {A : Nat → Prop} {post : Int32 → MS → Prop} {T10 : Int32 → Int32 → Int32 → Int64 → Int32 → MS → Prop} {T22 : Int32 → Int32 → Int32 → Int64 → Int32 → Int32 → MS → Prop} {T111 : Int32 → Int32 → Int32 → Int32 → MS → Prop} {T176 : Int32 → Int32 → Int32 → Int32 → MS → Prop} (C : mC p m c cX5_bring 10 s args meth (Option.some Jvm.ClassFile.FieldType.boolean) A) (hT10 : ∀ (x1 : Int32) (x2 : Int32) (x3 : Int32) (x4 : Int64) (x6 : Int32) (S : MS), T10 x1 x2 x3 x4 x6 S → ∀ (H : Heap) (locs : List Loc) (ls : Array Slot), lv_has ls 10 [(0, .ref (o 0)), (1, .int x1), (2, .int x2), (3, .int x3), (4, .long x4), (6, .int x6)] → mw D dA o A s S H locs → W p l e rM_bring s m args below meth c H locs 0 0 (mQi below args s D dA o A post) (F0 m 10 ls [])) (hT22 : ∀ (x1 : Int32) (x2 : Int32) (x3 : Int32) (x4 : Int64) (x6 : Int32) (x7 : Int32) (S : MS), T22 x1 x2 x3 x4 x6 x7 S → ∀ (H : Heap) (locs : List Loc) (ls : Array Slot), lv_has ls 10 [(0, .ref (o 0)), (1, .int x1), (2, .int x2), (3, .int x3), (4, .long x4), (6, .int x6), (7, .int x7)] → mw D dA o A s S H locs → W p l e rM_bring s m args below meth c H locs 0 0 (mQi below args s D dA o A post) (F0 m 22 ls [])) (hT111 : ∀ (x1 : Int32) (x2 : Int32) (x3 : Int32) (x6 : Int32) (S : MS), T111 x1 x2 x3 x6 S → ∀ (H : Heap) (locs : List Loc) (ls : Array Slot), lv_has ls 10 [(0, .ref (o 0)), (1, .int x1), (2, .int x2), (3, .int x3), (6, .int x6)] → mw D dA o A s S H locs → W p l e rM_bring s m args below meth c H locs 0 0 (mQi below args s D dA o A post) (F0 m 111 ls [])) (hT176 : ∀ (x1 : Int32) (x2 : Int32) (x3 : Int32) (x6 : Int32) (S : MS), T176 x1 x2 x3 x6 S → ∀ (H : Heap) (locs : List Loc) (ls : Array Slot), lv_has ls 10 [(0, .ref (o 0)), (1, .int x1), (2, .int x2), (3, .int x3), (6, .int x6)] → mw D dA o A s S H locs → W p l e rM_bring s m args below meth c H locs 0 0 (mQi below args s D dA o A post) (F0 m 176 ls [])) {x1 : Int32} {x6 : Int32} {x7 : Int32} {x8 : Int64} {S : MS} (h : M_bring_w86 post T10 T22 T111 T176 x1 x6 x7 x8 S) {H : Heap} {locs : List Loc} {ls : Array Slot} (hl : lv_has ls 10 [(0, .ref (o 0)), (1, .int x1), (6, .int x6), (7, .int x7), (8, .long x8)]) (w : mw D dA o A s S H locs) : W p l e rM_bring s m args below meth c H locs 0 0 (mQi below args s D dA o A post) (F0 m 86 ls []) := by
  unfold M_bring_w86 at h
  obtain ⟨⟨hx, hb, hml, hown, hts⟩, hr, hlk, hA⟩ := id C
  refine lv_iload hx hb dX5_bring_86 (lv_at hl 2 rfl) ?_
  refine lv_istore_n (lv' := [(2, .int _), (0, .ref _), (1, .int _), (6, .int _), (7, .int _), (8, .long _)]) hx hb dX5_bring_88 rfl hl (by decide) rfl (fun ls hl => ?_)
  refine lv_iload hx hb dX5_bring_89 (lv_at hl 4 rfl) ?_
  refine lv_istore_n (lv' := [(3, .int _), (2, .int _), (0, .ref _), (1, .int _), (6, .int _), (7, .int _), (8, .long _)]) hx hb dX5_bring_91 rfl hl (by decide) rfl (fun ls hl => ?_)
  refine lv_lload hx hb dX5_bring_92 (lv_at hl 6 rfl) ?_
  refine lv_lstore (lv' := [(4, .long _), (3, .int _), (2, .int _), (0, .ref _), (1, .int _), (6, .int _), (7, .int _), (8, .long _)]) hx hb dX5_bring_94 hl (by decide) rfl (fun ls hl => ?_)
  exact M_bring_a96 C hT10 hT22 hT111 hT176 h (lv_sub hl [3, 4, 2, 1, 0, 5, 6] rfl) w
def M_bring_w64 (post : Int32 → MS → Prop) (T10 : Int32 → Int32 → Int32 → Int64 → Int32 → MS → Prop) (T22 : Int32 → Int32 → Int32 → Int64 → Int32 → Int32 → MS → Prop) (T111 : Int32 → Int32 → Int32 → Int32 → MS → Prop) (T176 : Int32 → Int32 → Int32 → Int32 → MS → Prop) (v0 : Int64) (x1 : Int32) (x2 : Int32) (x3 : Int32) (x4 : Int64) (x6 : Int32) (x7 : Int32) (S : MS) : Prop :=
  ((v0 ≤ (0 : Int64) → M_bring_w96 post T10 T22 T111 T176 x1 x2 x3 x4 x6 x7 S) ∧ (¬ v0 ≤ (0 : Int64) → ((x2 = (-1 : Int32) → M_bring_w86 post T10 T22 T111 T176 x1 x6 x7 v0 S) ∧ (¬ x2 = (-1 : Int32) → ((x4 ≤ v0 → M_bring_w96 post T10 T22 T111 T176 x1 x2 x3 x4 x6 x7 S) ∧ (¬ x4 ≤ v0 → M_bring_w86 post T10 T22 T111 T176 x1 x6 x7 v0 S))))))
set_option maxHeartbeats 4000000 in
set_option maxRecDepth 100000 in
theorem M_bring_a64 {p : Program} {l : Launch} {e : Env} {s : State} {m : MethodId} {args : Array Value} {below : List Frame} {meth : Method} {c : Code} {D : va_G} {dA : Nat → ClassId} {o : Nat → Nat} {A : Nat → Prop} {post : Int32 → MS → Prop} {T10 : Int32 → Int32 → Int32 → Int64 → Int32 → MS → Prop} {T22 : Int32 → Int32 → Int32 → Int64 → Int32 → Int32 → MS → Prop} {T111 : Int32 → Int32 → Int32 → Int32 → MS → Prop} {T176 : Int32 → Int32 → Int32 → Int32 → MS → Prop} (C : mC p m c cX5_bring 10 s args meth (Option.some Jvm.ClassFile.FieldType.boolean) A) (hT10 : ∀ (x1 : Int32) (x2 : Int32) (x3 : Int32) (x4 : Int64) (x6 : Int32) (S : MS), T10 x1 x2 x3 x4 x6 S → ∀ (H : Heap) (locs : List Loc) (ls : Array Slot), lv_has ls 10 [(0, .ref (o 0)), (1, .int x1), (2, .int x2), (3, .int x3), (4, .long x4), (6, .int x6)] → mw D dA o A s S H locs → W p l e rM_bring s m args below meth c H locs 0 0 (mQi below args s D dA o A post) (F0 m 10 ls [])) (hT22 : ∀ (x1 : Int32) (x2 : Int32) (x3 : Int32) (x4 : Int64) (x6 : Int32) (x7 : Int32) (S : MS), T22 x1 x2 x3 x4 x6 x7 S → ∀ (H : Heap) (locs : List Loc) (ls : Array Slot), lv_has ls 10 [(0, .ref (o 0)), (1, .int x1), (2, .int x2), (3, .int x3), (4, .long x4), (6, .int x6), (7, .int x7)] → mw D dA o A s S H locs → W p l e rM_bring s m args below meth c H locs 0 0 (mQi below args s D dA o A post) (F0 m 22 ls [])) (hT111 : ∀ (x1 : Int32) (x2 : Int32) (x3 : Int32) (x6 : Int32) (S : MS), T111 x1 x2 x3 x6 S → ∀ (H : Heap) (locs : List Loc) (ls : Array Slot), lv_has ls 10 [(0, .ref (o 0)), (1, .int x1), (2, .int x2), (3, .int x3), (6, .int x6)] → mw D dA o A s S H locs → W p l e rM_bring s m args below meth c H locs 0 0 (mQi below args s D dA o A post) (F0 m 111 ls [])) (hT176 : ∀ (x1 : Int32) (x2 : Int32) (x3 : Int32) (x6 : Int32) (S : MS), T176 x1 x2 x3 x6 S → ∀ (H : Heap) (locs : List Loc) (ls : Array Slot), lv_has ls 10 [(0, .ref (o 0)), (1, .int x1), (2, .int x2), (3, .int x3), (6, .int x6)] → mw D dA o A s S H locs → W p l e rM_bring s m args below meth c H locs 0 0 (mQi below args s D dA o A post) (F0 m 176 ls [])) {v0 : Int64} {x1 : Int32} {x2 : Int32} {x3 : Int32} {x4 : Int64} {x6 : Int32} {x7 : Int32} {S : MS} (h : M_bring_w64 post T10 T22 T111 T176 v0 x1 x2 x3 x4 x6 x7 S) {H : Heap} {locs : List Loc} {ls : Array Slot} (hl : lv_has ls 10 [(0, .ref (o 0)), (1, .int x1), (2, .int x2), (3, .int x3), (4, .long x4), (6, .int x6), (7, .int x7)]) (w : mw D dA o A s S H locs) : W p l e rM_bring s m args below meth c H locs 0 0 (mQi below args s D dA o A post) (F0 m 64 ls [.long v0]) := by
  unfold M_bring_w64 at h
  obtain ⟨⟨hx, hb, hml, hown, hts⟩, hr, hlk, hA⟩ := id C
  refine lv_lstore (lv' := [(8, .long _), (0, .ref _), (1, .int _), (2, .int _), (3, .int _), (4, .long _), (6, .int _), (7, .int _)]) hx hb dX5_bring_64 hl (by decide) rfl (fun ls hl => ?_)
  refine lv_lload hx hb dX5_bring_66 (lv_at hl 0 rfl) ?_
  refine lv_lconst (v := 0) hx hb dX5_bring_68 (by decide) ?_
  refine W.lcmp hx hb dX5_bring_69 ?_
  obtain ⟨h1, h2⟩ := h
  refine lv_if_le (tgt := 96) hx hb dX5_bring_70 (by decide) (fun c1 => ?_) (fun c1 => ?_)
  · have h := h1 ((lg_cmp_le _ _).mp c1)
    exact M_bring_a96 C hT10 hT22 hT111 hT176 h (lv_sub hl [1, 2, 3, 4, 5, 6, 7] rfl) w
  · have h := h2 (mt (lg_cmp_le _ _).mpr c1)
    refine lv_iload_n hx hb dX5_bring_73 rfl (lv_at hl 3 rfl) ?_
    refine lv_iconst (v := -1) hx hb dX5_bring_74 (by decide) ?_
    obtain ⟨h1, h2⟩ := h
    refine lv_icmp_eq (tgt := 86) hx hb dX5_bring_75 (by decide) (fun c1 => ?_) (fun c1 => ?_)
    · have h := h1 c1
      exact M_bring_a86 C hT10 hT22 hT111 hT176 h (lv_sub hl [1, 2, 6, 7, 0] rfl) w
    · have h := h2 c1
      refine lv_lload hx hb dX5_bring_78 (lv_at hl 0 rfl) ?_
      refine lv_lload hx hb dX5_bring_80 (lv_at hl 5 rfl) ?_
      refine W.lcmp hx hb dX5_bring_82 ?_
      obtain ⟨h1, h2⟩ := h
      refine lv_if_ge (tgt := 96) hx hb dX5_bring_83 (by decide) (fun c1 => ?_) (fun c1 => ?_)
      · have h := h1 ((lg_cmp_ge _ _).mp c1)
        exact M_bring_a96 C hT10 hT22 hT111 hT176 h (lv_sub hl [1, 2, 3, 4, 5, 6, 7] rfl) w
      · have h := h2 (mt (lg_cmp_ge _ _).mpr c1)
        exact M_bring_a86 C hT10 hT22 hT111 hT176 h (lv_sub hl [1, 2, 6, 7, 0] rfl) w
def M_bring_w22 (post : Int32 → MS → Prop) (T10 : Int32 → Int32 → Int32 → Int64 → Int32 → MS → Prop) (T22 : Int32 → Int32 → Int32 → Int64 → Int32 → Int32 → MS → Prop) (T111 : Int32 → Int32 → Int32 → Int32 → MS → Prop) (T176 : Int32 → Int32 → Int32 → Int32 → MS → Prop) (x1 : Int32) (x2 : Int32) (x3 : Int32) (x4 : Int64) (x6 : Int32) (x7 : Int32) (S : MS) : Prop :=
  (((gF S 12) ≤ x7 → T10 x1 x2 x3 x4 (x6 + (1 : Int32)) S) ∧ (¬ (gF S 12) ≤ x7 → M_cell x6 x7 S (fun (r1 : Int64) (S1 : MS) => (((0 : Int64) ≤ r1 → M_cell x6 x7 S1 (fun (r2 : Int64) (S2 : MS) => M_bring_w64 post T10 T22 T111 T176 r2 x1 x2 x3 x4 x6 x7 S2)) ∧ (¬ (0 : Int64) ≤ r1 → M_cell x6 x7 S1 (fun (r3 : Int64) (S3 : MS) => M_bring_w64 post T10 T22 T111 T176 (-r3) x1 x2 x3 x4 x6 x7 S3))))))
set_option maxHeartbeats 4000000 in
set_option maxRecDepth 100000 in
theorem M_bring_a22 {p : Program} {l : Launch} {e : Env} {s : State} {m : MethodId} {args : Array Value} {below : List Frame} {meth : Method} {c : Code} {D : va_G} {dA : Nat → ClassId} {o : Nat → Nat} {A : Nat → Prop} {post : Int32 → MS → Prop} {T10 : Int32 → Int32 → Int32 → Int64 → Int32 → MS → Prop} {T22 : Int32 → Int32 → Int32 → Int64 → Int32 → Int32 → MS → Prop} {T111 : Int32 → Int32 → Int32 → Int32 → MS → Prop} {T176 : Int32 → Int32 → Int32 → Int32 → MS → Prop} (C : mC p m c cX5_bring 10 s args meth (Option.some Jvm.ClassFile.FieldType.boolean) A) (hT10 : ∀ (x1 : Int32) (x2 : Int32) (x3 : Int32) (x4 : Int64) (x6 : Int32) (S : MS), T10 x1 x2 x3 x4 x6 S → ∀ (H : Heap) (locs : List Loc) (ls : Array Slot), lv_has ls 10 [(0, .ref (o 0)), (1, .int x1), (2, .int x2), (3, .int x3), (4, .long x4), (6, .int x6)] → mw D dA o A s S H locs → W p l e rM_bring s m args below meth c H locs 0 0 (mQi below args s D dA o A post) (F0 m 10 ls [])) (hT22 : ∀ (x1 : Int32) (x2 : Int32) (x3 : Int32) (x4 : Int64) (x6 : Int32) (x7 : Int32) (S : MS), T22 x1 x2 x3 x4 x6 x7 S → ∀ (H : Heap) (locs : List Loc) (ls : Array Slot), lv_has ls 10 [(0, .ref (o 0)), (1, .int x1), (2, .int x2), (3, .int x3), (4, .long x4), (6, .int x6), (7, .int x7)] → mw D dA o A s S H locs → W p l e rM_bring s m args below meth c H locs 0 0 (mQi below args s D dA o A post) (F0 m 22 ls [])) (hT111 : ∀ (x1 : Int32) (x2 : Int32) (x3 : Int32) (x6 : Int32) (S : MS), T111 x1 x2 x3 x6 S → ∀ (H : Heap) (locs : List Loc) (ls : Array Slot), lv_has ls 10 [(0, .ref (o 0)), (1, .int x1), (2, .int x2), (3, .int x3), (6, .int x6)] → mw D dA o A s S H locs → W p l e rM_bring s m args below meth c H locs 0 0 (mQi below args s D dA o A post) (F0 m 111 ls [])) (hT176 : ∀ (x1 : Int32) (x2 : Int32) (x3 : Int32) (x6 : Int32) (S : MS), T176 x1 x2 x3 x6 S → ∀ (H : Heap) (locs : List Loc) (ls : Array Slot), lv_has ls 10 [(0, .ref (o 0)), (1, .int x1), (2, .int x2), (3, .int x3), (6, .int x6)] → mw D dA o A s S H locs → W p l e rM_bring s m args below meth c H locs 0 0 (mQi below args s D dA o A post) (F0 m 176 ls [])) {x1 : Int32} {x2 : Int32} {x3 : Int32} {x4 : Int64} {x6 : Int32} {x7 : Int32} {S : MS} (h : M_bring_w22 post T10 T22 T111 T176 x1 x2 x3 x4 x6 x7 S) {H : Heap} {locs : List Loc} {ls : Array Slot} (hl : lv_has ls 10 [(0, .ref (o 0)), (1, .int x1), (2, .int x2), (3, .int x3), (4, .long x4), (6, .int x6), (7, .int x7)]) (w : mw D dA o A s S H locs) : W p l e rM_bring s m args below meth c H locs 0 0 (mQi below args s D dA o A post) (F0 m 22 ls []) := by
  unfold M_bring_w22 at h
  obtain ⟨⟨hx, hb, hml, hown, hts⟩, hr, hlk, hA⟩ := id C
  refine lv_iload hx hb dX5_bring_22 (lv_at hl 6 rfl) ?_
  refine lv_aload_n hx hb dX5_bring_24 rfl (lv_at hl 0 rfl) ?_
  refine mr_get C w 12 (by decide) q589 rfl rfl dX5_bring_25 ?_
  obtain ⟨h1, h2⟩ := h
  refine lv_icmp_ge (tgt := 102) hx hb dX5_bring_28 (by decide) (fun c1 => ?_) (fun c1 => ?_)
  · have h := h1 c1
    refine lv_iinc (v := _ + (1 : Int32)) (lv' := [(6, .int _), (0, .ref _), (1, .int _), (2, .int _), (3, .int _), (4, .long _), (7, .int _)]) hx hb dX5_bring_102 hl (k := 5) rfl rfl (by decide) rfl (fun ls hl => ?_)
    refine lv_goto (tgt := 10) hx hb dX5_bring_105 (by decide) ?_
    exact hT10 _ _ _ _ _ _ h _ _ _ (lv_sub hl [1, 2, 3, 4, 5, 0] rfl) w
  · have h := h2 c1
    refine lv_aload_n hx hb dX5_bring_31 rfl (lv_at hl 0 rfl) ?_
    refine lv_iload hx hb dX5_bring_32 (lv_at hl 5 rfl) ?_
    refine lv_iload hx hb dX5_bring_34 (lv_at hl 6 rfl) ?_
    refine mr_callVL (rest := []) C w h (lw_V q808 q810 qs60 q87 q811) M_cell_d rfl rfl ⟨Nat.le_of_ble_eq_true rfl, Nat.le_of_ble_eq_true rfl⟩ rfl hl.1 rfl (Nat.le_of_ble_eq_true rfl) ⟨Nat.zero_le _, Nat.zero_le _⟩ dX5_bring_36 (fun r1 S1 H locs h w => ?_)
    refine lv_lconst (v := 0) hx hb dX5_bring_39 (by decide) ?_
    refine W.lcmp hx hb dX5_bring_40 ?_
    obtain ⟨h1, h2⟩ := h
    refine lv_if_ge (tgt := 56) hx hb dX5_bring_41 (by decide) (fun c1 => ?_) (fun c1 => ?_)
    · have h := h1 ((lg_cmp_ge _ _).mp c1)
      refine lv_aload_n hx hb dX5_bring_56 rfl (lv_at hl 0 rfl) ?_
      refine lv_iload hx hb dX5_bring_57 (lv_at hl 5 rfl) ?_
      refine lv_iload hx hb dX5_bring_59 (lv_at hl 6 rfl) ?_
      refine mr_callVL (rest := []) C w h (lw_V q808 q810 qs60 q87 q811) M_cell_d rfl rfl ⟨Nat.le_of_ble_eq_true rfl, Nat.le_of_ble_eq_true rfl⟩ rfl hl.1 rfl (Nat.le_of_ble_eq_true rfl) ⟨Nat.zero_le _, Nat.zero_le _⟩ dX5_bring_61 (fun r2 S2 H locs h w => ?_)
      exact M_bring_a64 C hT10 hT22 hT111 hT176 h (lv_sub hl [0, 1, 2, 3, 4, 5, 6] rfl) w
    · have h := h2 (mt (lg_cmp_ge _ _).mpr c1)
      refine lv_aload_n hx hb dX5_bring_44 rfl (lv_at hl 0 rfl) ?_
      refine lv_iload hx hb dX5_bring_45 (lv_at hl 5 rfl) ?_
      refine lv_iload hx hb dX5_bring_47 (lv_at hl 6 rfl) ?_
      refine mr_callVL (rest := []) C w h (lw_V q808 q810 qs60 q87 q811) M_cell_d rfl rfl ⟨Nat.le_of_ble_eq_true rfl, Nat.le_of_ble_eq_true rfl⟩ rfl hl.1 rfl (Nat.le_of_ble_eq_true rfl) ⟨Nat.zero_le _, Nat.zero_le _⟩ dX5_bring_49 (fun r3 S3 H locs h w => ?_)
      refine lv_lneg hx hb dX5_bring_52 ?_
      refine lv_goto (tgt := 64) hx hb dX5_bring_53 (by decide) ?_
      exact M_bring_a64 C hT10 hT22 hT111 hT176 h (lv_sub hl [0, 1, 2, 3, 4, 5, 6] rfl) w
def M_bring_w10 (post : Int32 → MS → Prop) (T10 : Int32 → Int32 → Int32 → Int64 → Int32 → MS → Prop) (T22 : Int32 → Int32 → Int32 → Int64 → Int32 → Int32 → MS → Prop) (T111 : Int32 → Int32 → Int32 → Int32 → MS → Prop) (T176 : Int32 → Int32 → Int32 → Int32 → MS → Prop) (x1 : Int32) (x2 : Int32) (x3 : Int32) (x4 : Int64) (x6 : Int32) (S : MS) : Prop :=
  (((gF S 11) ≤ x6 → T111 x1 x2 x3 (0 : Int32) S) ∧ (¬ (gF S 11) ≤ x6 → T22 x1 x2 x3 x4 x6 x1 S))
set_option maxHeartbeats 4000000 in
set_option maxRecDepth 100000 in
theorem M_bring_a10 {p : Program} {l : Launch} {e : Env} {s : State} {m : MethodId} {args : Array Value} {below : List Frame} {meth : Method} {c : Code} {D : va_G} {dA : Nat → ClassId} {o : Nat → Nat} {A : Nat → Prop} {post : Int32 → MS → Prop} {T10 : Int32 → Int32 → Int32 → Int64 → Int32 → MS → Prop} {T22 : Int32 → Int32 → Int32 → Int64 → Int32 → Int32 → MS → Prop} {T111 : Int32 → Int32 → Int32 → Int32 → MS → Prop} {T176 : Int32 → Int32 → Int32 → Int32 → MS → Prop} (C : mC p m c cX5_bring 10 s args meth (Option.some Jvm.ClassFile.FieldType.boolean) A) (hT10 : ∀ (x1 : Int32) (x2 : Int32) (x3 : Int32) (x4 : Int64) (x6 : Int32) (S : MS), T10 x1 x2 x3 x4 x6 S → ∀ (H : Heap) (locs : List Loc) (ls : Array Slot), lv_has ls 10 [(0, .ref (o 0)), (1, .int x1), (2, .int x2), (3, .int x3), (4, .long x4), (6, .int x6)] → mw D dA o A s S H locs → W p l e rM_bring s m args below meth c H locs 0 0 (mQi below args s D dA o A post) (F0 m 10 ls [])) (hT22 : ∀ (x1 : Int32) (x2 : Int32) (x3 : Int32) (x4 : Int64) (x6 : Int32) (x7 : Int32) (S : MS), T22 x1 x2 x3 x4 x6 x7 S → ∀ (H : Heap) (locs : List Loc) (ls : Array Slot), lv_has ls 10 [(0, .ref (o 0)), (1, .int x1), (2, .int x2), (3, .int x3), (4, .long x4), (6, .int x6), (7, .int x7)] → mw D dA o A s S H locs → W p l e rM_bring s m args below meth c H locs 0 0 (mQi below args s D dA o A post) (F0 m 22 ls [])) (hT111 : ∀ (x1 : Int32) (x2 : Int32) (x3 : Int32) (x6 : Int32) (S : MS), T111 x1 x2 x3 x6 S → ∀ (H : Heap) (locs : List Loc) (ls : Array Slot), lv_has ls 10 [(0, .ref (o 0)), (1, .int x1), (2, .int x2), (3, .int x3), (6, .int x6)] → mw D dA o A s S H locs → W p l e rM_bring s m args below meth c H locs 0 0 (mQi below args s D dA o A post) (F0 m 111 ls [])) (hT176 : ∀ (x1 : Int32) (x2 : Int32) (x3 : Int32) (x6 : Int32) (S : MS), T176 x1 x2 x3 x6 S → ∀ (H : Heap) (locs : List Loc) (ls : Array Slot), lv_has ls 10 [(0, .ref (o 0)), (1, .int x1), (2, .int x2), (3, .int x3), (6, .int x6)] → mw D dA o A s S H locs → W p l e rM_bring s m args below meth c H locs 0 0 (mQi below args s D dA o A post) (F0 m 176 ls [])) {x1 : Int32} {x2 : Int32} {x3 : Int32} {x4 : Int64} {x6 : Int32} {S : MS} (h : M_bring_w10 post T10 T22 T111 T176 x1 x2 x3 x4 x6 S) {H : Heap} {locs : List Loc} {ls : Array Slot} (hl : lv_has ls 10 [(0, .ref (o 0)), (1, .int x1), (2, .int x2), (3, .int x3), (4, .long x4), (6, .int x6)]) (w : mw D dA o A s S H locs) : W p l e rM_bring s m args below meth c H locs 0 0 (mQi below args s D dA o A post) (F0 m 10 ls []) := by
  unfold M_bring_w10 at h
  obtain ⟨⟨hx, hb, hml, hown, hts⟩, hr, hlk, hA⟩ := id C
  refine lv_iload hx hb dX5_bring_10 (lv_at hl 5 rfl) ?_
  refine lv_aload_n hx hb dX5_bring_12 rfl (lv_at hl 0 rfl) ?_
  refine mr_get C w 11 (by decide) q588 rfl rfl dX5_bring_13 ?_
  obtain ⟨h1, h2⟩ := h
  refine lv_icmp_ge (tgt := 108) hx hb dX5_bring_16 (by decide) (fun c1 => ?_) (fun c1 => ?_)
  · have h := h1 c1
    refine lv_iconst (v := 0) hx hb dX5_bring_108 (by decide) ?_
    refine lv_istore (lv' := [(6, .int _), (0, .ref _), (1, .int _), (2, .int _), (3, .int _), (4, .long _)]) hx hb dX5_bring_109 hl (by decide) rfl (fun ls hl => ?_)
    exact hT111 _ _ _ _ _ h _ _ _ (lv_sub hl [1, 2, 3, 4, 0] rfl) w
  · have h := h2 c1
    refine lv_iload_n hx hb dX5_bring_19 rfl (lv_at hl 1 rfl) ?_
    refine lv_istore (lv' := [(7, .int _), (0, .ref _), (1, .int _), (2, .int _), (3, .int _), (4, .long _), (6, .int _)]) hx hb dX5_bring_20 hl (by decide) rfl (fun ls hl => ?_)
    exact hT22 _ _ _ _ _ _ _ h _ _ _ (lv_sub hl [1, 2, 3, 4, 5, 6, 0] rfl) w
def M_bring_w0 (post : Int32 → MS → Prop) (T10 : Int32 → Int32 → Int32 → Int64 → Int32 → MS → Prop) (T22 : Int32 → Int32 → Int32 → Int64 → Int32 → Int32 → MS → Prop) (T111 : Int32 → Int32 → Int32 → Int32 → MS → Prop) (T176 : Int32 → Int32 → Int32 → Int32 → MS → Prop) (x1 : Int32) (S : MS) : Prop :=
  T10 x1 (-1 : Int32) (-1 : Int32) (0 : Int64) x1 S
set_option maxHeartbeats 4000000 in
set_option maxRecDepth 100000 in
theorem M_bring_a0 {p : Program} {l : Launch} {e : Env} {s : State} {m : MethodId} {args : Array Value} {below : List Frame} {meth : Method} {c : Code} {D : va_G} {dA : Nat → ClassId} {o : Nat → Nat} {A : Nat → Prop} {post : Int32 → MS → Prop} {T10 : Int32 → Int32 → Int32 → Int64 → Int32 → MS → Prop} {T22 : Int32 → Int32 → Int32 → Int64 → Int32 → Int32 → MS → Prop} {T111 : Int32 → Int32 → Int32 → Int32 → MS → Prop} {T176 : Int32 → Int32 → Int32 → Int32 → MS → Prop} (C : mC p m c cX5_bring 10 s args meth (Option.some Jvm.ClassFile.FieldType.boolean) A) (hT10 : ∀ (x1 : Int32) (x2 : Int32) (x3 : Int32) (x4 : Int64) (x6 : Int32) (S : MS), T10 x1 x2 x3 x4 x6 S → ∀ (H : Heap) (locs : List Loc) (ls : Array Slot), lv_has ls 10 [(0, .ref (o 0)), (1, .int x1), (2, .int x2), (3, .int x3), (4, .long x4), (6, .int x6)] → mw D dA o A s S H locs → W p l e rM_bring s m args below meth c H locs 0 0 (mQi below args s D dA o A post) (F0 m 10 ls [])) (hT22 : ∀ (x1 : Int32) (x2 : Int32) (x3 : Int32) (x4 : Int64) (x6 : Int32) (x7 : Int32) (S : MS), T22 x1 x2 x3 x4 x6 x7 S → ∀ (H : Heap) (locs : List Loc) (ls : Array Slot), lv_has ls 10 [(0, .ref (o 0)), (1, .int x1), (2, .int x2), (3, .int x3), (4, .long x4), (6, .int x6), (7, .int x7)] → mw D dA o A s S H locs → W p l e rM_bring s m args below meth c H locs 0 0 (mQi below args s D dA o A post) (F0 m 22 ls [])) (hT111 : ∀ (x1 : Int32) (x2 : Int32) (x3 : Int32) (x6 : Int32) (S : MS), T111 x1 x2 x3 x6 S → ∀ (H : Heap) (locs : List Loc) (ls : Array Slot), lv_has ls 10 [(0, .ref (o 0)), (1, .int x1), (2, .int x2), (3, .int x3), (6, .int x6)] → mw D dA o A s S H locs → W p l e rM_bring s m args below meth c H locs 0 0 (mQi below args s D dA o A post) (F0 m 111 ls [])) (hT176 : ∀ (x1 : Int32) (x2 : Int32) (x3 : Int32) (x6 : Int32) (S : MS), T176 x1 x2 x3 x6 S → ∀ (H : Heap) (locs : List Loc) (ls : Array Slot), lv_has ls 10 [(0, .ref (o 0)), (1, .int x1), (2, .int x2), (3, .int x3), (6, .int x6)] → mw D dA o A s S H locs → W p l e rM_bring s m args below meth c H locs 0 0 (mQi below args s D dA o A post) (F0 m 176 ls [])) {x1 : Int32} {S : MS} (h : M_bring_w0 post T10 T22 T111 T176 x1 S) {H : Heap} {locs : List Loc} {ls : Array Slot} (hl : lv_has ls 10 [(0, .ref (o 0)), (1, .int x1)]) (w : mw D dA o A s S H locs) : W p l e rM_bring s m args below meth c H locs 0 0 (mQi below args s D dA o A post) (F0 m 0 ls []) := by
  unfold M_bring_w0 at h
  obtain ⟨⟨hx, hb, hml, hown, hts⟩, hr, hlk, hA⟩ := id C
  refine lv_iconst (v := -1) hx hb dX5_bring_0 (by decide) ?_
  refine lv_istore_n (lv' := [(2, .int _), (0, .ref _), (1, .int _)]) hx hb dX5_bring_1 rfl hl (by decide) rfl (fun ls hl => ?_)
  refine lv_iconst (v := -1) hx hb dX5_bring_2 (by decide) ?_
  refine lv_istore_n (lv' := [(3, .int _), (2, .int _), (0, .ref _), (1, .int _)]) hx hb dX5_bring_3 rfl hl (by decide) rfl (fun ls hl => ?_)
  refine lv_lconst (v := 0) hx hb dX5_bring_4 (by decide) ?_
  refine lv_lstore (lv' := [(4, .long _), (3, .int _), (2, .int _), (0, .ref _), (1, .int _)]) hx hb dX5_bring_5 hl (by decide) rfl (fun ls hl => ?_)
  refine lv_iload_n hx hb dX5_bring_7 rfl (lv_at hl 4 rfl) ?_
  refine lv_istore (lv' := [(6, .int _), (4, .long _), (3, .int _), (2, .int _), (0, .ref _), (1, .int _)]) hx hb dX5_bring_8 hl (by decide) rfl (fun ls hl => ?_)
  exact hT10 _ _ _ _ _ _ h _ _ _ (lv_sub hl [4, 5, 3, 2, 1, 0] rfl) w
def M_bring_VC (x1 : Int32) (S : MS) (post : Int32 → MS → Prop) : Prop := ∀ (T10 : Int32 → Int32 → Int32 → Int64 → Int32 → MS → Prop) (T22 : Int32 → Int32 → Int32 → Int64 → Int32 → Int32 → MS → Prop) (T111 : Int32 → Int32 → Int32 → Int32 → MS → Prop) (T176 : Int32 → Int32 → Int32 → Int32 → MS → Prop), (∀ (x1 : Int32) (x2 : Int32) (x3 : Int32) (x4 : Int64) (x6 : Int32) (S : MS), M_bring_w10 post T10 T22 T111 T176 x1 x2 x3 x4 x6 S → T10 x1 x2 x3 x4 x6 S) → (∀ (x1 : Int32) (x2 : Int32) (x3 : Int32) (x4 : Int64) (x6 : Int32) (x7 : Int32) (S : MS), M_bring_w22 post T10 T22 T111 T176 x1 x2 x3 x4 x6 x7 S → T22 x1 x2 x3 x4 x6 x7 S) → (∀ (x1 : Int32) (x2 : Int32) (x3 : Int32) (x6 : Int32) (S : MS), M_bring_w111 post T10 T22 T111 T176 x1 x2 x3 x6 S → T111 x1 x2 x3 x6 S) → (∀ (x1 : Int32) (x2 : Int32) (x3 : Int32) (x6 : Int32) (S : MS), M_bring_w176 post T10 T22 T111 T176 x1 x2 x3 x6 S → T176 x1 x2 x3 x6 S) → M_bring_w0 post T10 T22 T111 T176 x1 S
theorem M_bring_ok {x1 : Int32} {S : MS} {post : Int32 → MS → Prop} (h : M_bring_VC x1 S post) : M_bring x1 S post := by
  intro l D dA o sz
  refine mr_start (fun A => va_Qi post (mB D dA o A) A) rfl (Nat.le_of_ble_eq_true rfl) (by decide) ?_
  intro p e s m args below meth c ls A C w hl
  have hl : lv_has ls 10 [(0, .ref (o 0)), (1, .int x1)] := hl
  have h := h (fun (x1 : Int32) (x2 : Int32) (x3 : Int32) (x4 : Int64) (x6 : Int32) S => ∀ (H : Heap) (locs : List Loc) (ls : Array Slot), lv_has ls 10 [(0, .ref (o 0)), (1, .int x1), (2, .int x2), (3, .int x3), (4, .long x4), (6, .int x6)] → mw D dA o A s S H locs → W p l e rM_bring s m args below meth c H locs 0 0 (mQi below args s D dA o A post) (F0 m 10 ls [])) (fun (x1 : Int32) (x2 : Int32) (x3 : Int32) (x4 : Int64) (x6 : Int32) (x7 : Int32) S => ∀ (H : Heap) (locs : List Loc) (ls : Array Slot), lv_has ls 10 [(0, .ref (o 0)), (1, .int x1), (2, .int x2), (3, .int x3), (4, .long x4), (6, .int x6), (7, .int x7)] → mw D dA o A s S H locs → W p l e rM_bring s m args below meth c H locs 0 0 (mQi below args s D dA o A post) (F0 m 22 ls [])) (fun (x1 : Int32) (x2 : Int32) (x3 : Int32) (x6 : Int32) S => ∀ (H : Heap) (locs : List Loc) (ls : Array Slot), lv_has ls 10 [(0, .ref (o 0)), (1, .int x1), (2, .int x2), (3, .int x3), (6, .int x6)] → mw D dA o A s S H locs → W p l e rM_bring s m args below meth c H locs 0 0 (mQi below args s D dA o A post) (F0 m 111 ls [])) (fun (x1 : Int32) (x2 : Int32) (x3 : Int32) (x6 : Int32) S => ∀ (H : Heap) (locs : List Loc) (ls : Array Slot), lv_has ls 10 [(0, .ref (o 0)), (1, .int x1), (2, .int x2), (3, .int x3), (6, .int x6)] → mw D dA o A s S H locs → W p l e rM_bring s m args below meth c H locs 0 0 (mQi below args s D dA o A post) (F0 m 176 ls [])) (fun _ _ _ _ _ S h H locs ls hl w => M_bring_a10 C (fun _ _ _ _ _ _ h => h) (fun _ _ _ _ _ _ _ h => h) (fun _ _ _ _ _ h => h) (fun _ _ _ _ _ h => h) h hl w) (fun _ _ _ _ _ _ S h H locs ls hl w => M_bring_a22 C (fun _ _ _ _ _ _ h => h) (fun _ _ _ _ _ _ _ h => h) (fun _ _ _ _ _ h => h) (fun _ _ _ _ _ h => h) h hl w) (fun _ _ _ _ S h H locs ls hl w => M_bring_a111 C (fun _ _ _ _ _ _ h => h) (fun _ _ _ _ _ _ _ h => h) (fun _ _ _ _ _ h => h) (fun _ _ _ _ _ h => h) h hl w) (fun _ _ _ _ S h H locs ls hl w => M_bring_a176 C (fun _ _ _ _ _ _ h => h) (fun _ _ _ _ _ _ _ h => h) (fun _ _ _ _ _ h => h) (fun _ _ _ _ _ h => h) h hl w)
  exact M_bring_a0 C (fun _ _ _ _ _ _ h => h) (fun _ _ _ _ _ _ _ h => h) (fun _ _ _ _ _ h => h) (fun _ _ _ _ _ h => h) h (lv_sub hl [0, 1] rfl) w
