/-! clear()I -/
def M_clear_w0 (post : Int32 → MS → Prop) (S : MS) : Prop :=
  (fun (S1 : MS) => M_empty S1 (fun (S2 : MS) => post (gF S 0) S2)) (sF S 0 (0 : Int32))
set_option maxHeartbeats 4000000 in
set_option maxRecDepth 100000 in
theorem M_clear_a0 {p : Program} {l : Launch} {e : Env} {s : State} {m : MethodId} {args : Array Value} {below : List Frame} {meth : Method} {c : Code} {D : va_G} {dA : Nat → ClassId} {o : Nat → Nat} {A : Nat → Prop} {post : Int32 → MS → Prop} (C : mC p m c cX5_clear 2 s args meth (Option.some Jvm.ClassFile.FieldType.int) A) {S : MS} (h : M_clear_w0 post S) {H : Heap} {locs : List Loc} {ls : Array Slot} (hl : lv_has ls 2 [(0, .ref (o 0))]) (w : mw D dA o A s S H locs) : W p l e rM_clear s m args below meth c H locs 0 0 (mQi below args s D dA o A post) (F0 m 0 ls []) := by
  unfold M_clear_w0 at h
  obtain ⟨⟨hx, hb, hml, hown, hts⟩, hr, hlk, hA⟩ := id C
  refine lv_aload_n hx hb dX5_clear_0 rfl (lv_at hl 0 rfl) ?_
  refine mr_get C w 0 (by decide) q577 rfl rfl dX5_clear_1 ?_
  refine lv_istore_n (lv' := [(1, .int _), (0, .ref _)]) hx hb dX5_clear_4 rfl hl (by decide) rfl (fun ls hl => ?_)
  refine lv_aload_n hx hb dX5_clear_5 rfl (lv_at hl 1 rfl) ?_
  refine lv_iconst (v := 0) hx hb dX5_clear_6 (by decide) ?_
  refine mr_put (ty := .int) C w 0 (by decide) q577 rfl rfl (by decide +kernel) rfl rfl MWf_0 dX5_clear_7 (fun H locs w => ?_)
  refine lv_aload_n hx hb dX5_clear_10 rfl (lv_at hl 1 rfl) ?_
  refine mr_callVV (rest := []) C w h (lw_V q660 q662 qs34 q87 q663) M_empty_d rfl rfl ⟨Nat.le_of_ble_eq_true rfl, Nat.le_of_ble_eq_true rfl⟩ rfl hl.1 rfl (Nat.le_of_ble_eq_true rfl) ⟨Nat.zero_le _, Nat.zero_le _⟩ dX5_clear_11 (fun S2 H locs h w => ?_)
  refine lv_iload_n hx hb dX5_clear_14 rfl (lv_at hl 0 rfl) ?_
  exact mr_iret C w h dX5_clear_15
def M_clear_VC (S : MS) (post : Int32 → MS → Prop) : Prop := M_clear_w0 post S
theorem M_clear_ok {S : MS} {post : Int32 → MS → Prop} (h : M_clear_VC S post) : M_clear S post := by
  intro l D dA o sz
  refine mr_start (fun A => va_Qi post (mB D dA o A) A) rfl (Nat.le_of_ble_eq_true rfl) (by decide) ?_
  intro p e s m args below meth c ls A C w hl
  have hl : lv_has ls 2 [(0, .ref (o 0))] := hl
  exact M_clear_a0 C h (lv_sub hl [0] rfl) w

/-! across(III)I -/
def M_across_w58 (post : Int32 → MS → Prop) (v0 : Int32) (S : MS) : Prop :=
  post v0 S
set_option maxHeartbeats 4000000 in
set_option maxRecDepth 100000 in
theorem M_across_a58 {p : Program} {l : Launch} {e : Env} {s : State} {m : MethodId} {args : Array Value} {below : List Frame} {meth : Method} {c : Code} {D : va_G} {dA : Nat → ClassId} {o : Nat → Nat} {A : Nat → Prop} {post : Int32 → MS → Prop} (C : mC p m c cX5_across 5 s args meth (Option.some Jvm.ClassFile.FieldType.int) A) {v0 : Int32} {S : MS} (h : M_across_w58 post v0 S) {H : Heap} {locs : List Loc} {ls : Array Slot} (hl : lv_has ls 5 [(0, .ref (o 0))]) (w : mw D dA o A s S H locs) : W p l e rM_across s m args below meth c H locs 0 0 (mQi below args s D dA o A post) (F0 m 58 ls [.int v0]) := by
  unfold M_across_w58 at h
  obtain ⟨⟨hx, hb, hml, hown, hts⟩, hr, hlk, hA⟩ := id C
  exact mr_iret C w h dX5_across_58
def M_across_w18 (post : Int32 → MS → Prop) (S : MS) : Prop :=
  post (-2 : Int32) S
set_option maxHeartbeats 4000000 in
set_option maxRecDepth 100000 in
theorem M_across_a18 {p : Program} {l : Launch} {e : Env} {s : State} {m : MethodId} {args : Array Value} {below : List Frame} {meth : Method} {c : Code} {D : va_G} {dA : Nat → ClassId} {o : Nat → Nat} {A : Nat → Prop} {post : Int32 → MS → Prop} (C : mC p m c cX5_across 5 s args meth (Option.some Jvm.ClassFile.FieldType.int) A) {S : MS} (h : M_across_w18 post S) {H : Heap} {locs : List Loc} {ls : Array Slot} (hl : lv_has ls 5 [(0, .ref (o 0))]) (w : mw D dA o A s S H locs) : W p l e rM_across s m args below meth c H locs 0 0 (mQi below args s D dA o A post) (F0 m 18 ls []) := by
  unfold M_across_w18 at h
  obtain ⟨⟨hx, hb, hml, hown, hts⟩, hr, hlk, hA⟩ := id C
  refine lv_bipush (v := -2) hx hb dX5_across_18 (by decide) ?_
  exact mr_iret C w h dX5_across_20
def M_across_w0 (post : Int32 → MS → Prop) (x1 : Int32) (x2 : Int32) (x3 : Int32) (S : MS) : Prop :=
  M_isSide x1 x2 S (fun (r1 : Int32) (S1 : MS) => ((r1 = 0 → M_across_w18 post S1) ∧ (¬ r1 = 0 → M_in x3 (0 : Int32) (1 : Int32) S1 (fun (r2 : Int32) (S2 : MS) => ((¬ r2 = 0 → (vp_in (((4 : Int32) * x1) + x2) 12 ∧ ((¬ (gI S2 1 ((((4 : Int32) * x1) + x2)).toNatClampNeg) = (-1 : Int32) → ((¬ x3 = 0 → M_across_w58 post ((gI S2 1 ((((4 : Int32) * x1) + x2)).toNatClampNeg) - (gI S2 1 ((((4 : Int32) * x1) + x2)).toNatClampNeg) / (4 : Int32) * (4 : Int32)) S2) ∧ (x3 = 0 → M_across_w58 post ((gI S2 1 ((((4 : Int32) * x1) + x2)).toNatClampNeg) / (4 : Int32)) S2))) ∧ ((gI S2 1 ((((4 : Int32) * x1) + x2)).toNatClampNeg) = (-1 : Int32) → M_across_w58 post (-1 : Int32) S2)))) ∧ (r2 = 0 → M_across_w18 post S2))))))
set_option maxHeartbeats 4000000 in
set_option maxRecDepth 100000 in
theorem M_across_a0 {p : Program} {l : Launch} {e : Env} {s : State} {m : MethodId} {args : Array Value} {below : List Frame} {meth : Method} {c : Code} {D : va_G} {dA : Nat → ClassId} {o : Nat → Nat} {A : Nat → Prop} {post : Int32 → MS → Prop} (C : mC p m c cX5_across 5 s args meth (Option.some Jvm.ClassFile.FieldType.int) A) {x1 : Int32} {x2 : Int32} {x3 : Int32} {S : MS} (h : M_across_w0 post x1 x2 x3 S) {H : Heap} {locs : List Loc} {ls : Array Slot} (hl : lv_has ls 5 [(0, .ref (o 0)), (1, .int x1), (2, .int x2), (3, .int x3)]) (w : mw D dA o A s S H locs) : W p l e rM_across s m args below meth c H locs 0 0 (mQi below args s D dA o A post) (F0 m 0 ls []) := by
  unfold M_across_w0 at h
  obtain ⟨⟨hx, hb, hml, hown, hts⟩, hr, hlk, hA⟩ := id C
  refine lv_aload_n hx hb dX5_across_0 rfl (lv_at hl 0 rfl) ?_
  refine lv_iload_n hx hb dX5_across_1 rfl (lv_at hl 1 rfl) ?_
  refine lv_iload_n hx hb dX5_across_2 rfl (lv_at hl 2 rfl) ?_
  refine mr_callVI (rest := []) C w h (lw_V q668 q670 qs35 q87 q671) M_isSide_d rfl rfl ⟨Nat.le_of_ble_eq_true rfl, Nat.le_of_ble_eq_true rfl⟩ rfl hl.1 rfl (Nat.le_of_ble_eq_true rfl) ⟨Nat.zero_le _, Nat.zero_le _⟩ dX5_across_3 (fun r1 S1 H locs h w => ?_)
  obtain ⟨h1, h2⟩ := h
  refine lv_if_eq (tgt := 18) hx hb dX5_across_6 (by decide) (fun c1 => ?_) (fun c1 => ?_)
  · have h := h1 c1
    exact M_across_a18 C h (lv_sub hl [0] rfl) w
  · have h := h2 c1
    refine lv_iload_n hx hb dX5_across_9 rfl (lv_at hl 3 rfl) ?_
    refine lv_iconst (v := 0) hx hb dX5_across_10 (by decide) ?_
    refine lv_iconst (v := 1) hx hb dX5_across_11 (by decide) ?_
    refine mr_callSI (rest := []) C w h (lw_S q676 q677 q87 q678) M_in_d rfl rfl ⟨Nat.le_of_ble_eq_true rfl, Nat.le_of_ble_eq_true rfl⟩ rfl hl.1 rfl (Nat.le_of_ble_eq_true rfl) ⟨Nat.zero_le _, Nat.zero_le _⟩ dX5_across_12 (fun r2 S2 H locs h w => ?_)
    obtain ⟨h1, h2⟩ := h
    refine lv_if_ne (tgt := 21) hx hb dX5_across_15 (by decide) (fun c1 => ?_) (fun c1 => ?_)
    · have h := h1 c1
      refine lv_aload_n hx hb dX5_across_21 rfl (lv_at hl 0 rfl) ?_
      refine mr_get C w 1 (by decide) q578 rfl rfl dX5_across_22 ?_
      refine lv_iconst (v := 4) hx hb dX5_across_25 (by decide) ?_
      refine lv_iload_n hx hb dX5_across_26 rfl (lv_at hl 1 rfl) ?_
      refine lv_imul hx hb dX5_across_27 ?_
      refine lv_iload_n hx hb dX5_across_28 rfl (lv_at hl 2 rfl) ?_
      refine lv_iadd hx hb dX5_across_29 ?_
      obtain ⟨hi, h⟩ := h
      refine mr_iald C w 1 0 rfl rfl hi dX5_across_30 ?_
      refine lv_istore (lv' := [(4, .int _), (0, .ref _), (1, .int _), (2, .int _), (3, .int _)]) hx hb dX5_across_31 hl (by decide) rfl (fun ls hl => ?_)
      refine lv_iload hx hb dX5_across_33 (lv_at hl 0 rfl) ?_
      refine lv_iconst (v := -1) hx hb dX5_across_35 (by decide) ?_
      obtain ⟨h1, h2⟩ := h
      refine lv_icmp_ne (tgt := 43) hx hb dX5_across_36 (by decide) (fun c1 => ?_) (fun c1 => ?_)
      · have h := h1 c1
        refine lv_iload_n hx hb dX5_across_43 rfl (lv_at hl 4 rfl) ?_
        obtain ⟨h1, h2⟩ := h
        refine lv_if_ne (tgt := 54) hx hb dX5_across_44 (by decide) (fun c1 => ?_) (fun c1 => ?_)
        · have h := h1 c1
          refine lv_iload hx hb dX5_across_54 (lv_at hl 0 rfl) ?_
          refine lv_iconst (v := 4) hx hb dX5_across_56 (by decide) ?_
          refine lv_irem hx hb dX5_across_57 (by decide) ?_
          exact M_across_a58 C h (lv_sub hl [1] rfl) w
        · have h := h2 c1
          refine lv_iload hx hb dX5_across_47 (lv_at hl 0 rfl) ?_
          refine lv_iconst (v := 4) hx hb dX5_across_49 (by decide) ?_
          refine lv_idiv hx hb dX5_across_50 (by decide) ?_
          refine lv_goto (tgt := 58) hx hb dX5_across_51 (by decide) ?_
          exact M_across_a58 C h (lv_sub hl [1] rfl) w
      · have h := h2 c1
        refine lv_iconst (v := -1) hx hb dX5_across_39 (by decide) ?_
        refine lv_goto (tgt := 58) hx hb dX5_across_40 (by decide) ?_
        exact M_across_a58 C h (lv_sub hl [1] rfl) w
    · have h := h2 c1
      exact M_across_a18 C h (lv_sub hl [0] rfl) w
def M_across_VC (x1 : Int32) (x2 : Int32) (x3 : Int32) (S : MS) (post : Int32 → MS → Prop) : Prop := M_across_w0 post x1 x2 x3 S
theorem M_across_ok {x1 : Int32} {x2 : Int32} {x3 : Int32} {S : MS} {post : Int32 → MS → Prop} (h : M_across_VC x1 x2 x3 S post) : M_across x1 x2 x3 S post := by
  intro l D dA o sz
  refine mr_start (fun A => va_Qi post (mB D dA o A) A) rfl (Nat.le_of_ble_eq_true rfl) (by decide) ?_
  intro p e s m args below meth c ls A C w hl
  have hl : lv_has ls 5 [(0, .ref (o 0)), (1, .int x1), (2, .int x2), (3, .int x3)] := hl
  exact M_across_a0 C h (lv_sub hl [0, 1, 2, 3] rfl) w

/-! classOf(III)I -/
def M_classOf_w127 (post : Int32 → MS → Prop) (T51 : Int32 → Int32 → Int32 → Int32 → MS → Prop) (T100 : Int32 → Int32 → Int32 → Int32 → MS → Prop) (v0 : Int32) (v1 : Int32) (x2 : Int32) (x3 : Int32) (x5 : Int32) (S : MS) : Prop :=
  T100 x2 x3 (v1 + v0) (x5 + (1 : Int32)) S
set_option maxHeartbeats 4000000 in
set_option maxRecDepth 100000 in
theorem M_classOf_a127 {p : Program} {l : Launch} {e : Env} {s : State} {m : MethodId} {args : Array Value} {below : List Frame} {meth : Method} {c : Code} {D : va_G} {dA : Nat → ClassId} {o : Nat → Nat} {A : Nat → Prop} {post : Int32 → MS → Prop} {T51 : Int32 → Int32 → Int32 → Int32 → MS → Prop} {T100 : Int32 → Int32 → Int32 → Int32 → MS → Prop} (C : mC p m c cX5_classOf 6 s args meth (Option.some Jvm.ClassFile.FieldType.int) A) (hT51 : ∀ (x2 : Int32) (x3 : Int32) (x4 : Int32) (x5 : Int32) (S : MS), T51 x2 x3 x4 x5 S → ∀ (H : Heap) (locs : List Loc) (ls : Array Slot), lv_has ls 6 [(0, .ref (o 0)), (2, .int x2), (3, .int x3), (4, .int x4), (5, .int x5)] → mw D dA o A s S H locs → W p l e rM_classOf s m args below meth c H locs 0 0 (mQi below args s D dA o A post) (F0 m 51 ls [])) (hT100 : ∀ (x2 : Int32) (x3 : Int32) (x4 : Int32) (x5 : Int32) (S : MS), T100 x2 x3 x4 x5 S → ∀ (H : Heap) (locs : List Loc) (ls : Array Slot), lv_has ls 6 [(0, .ref (o 0)), (2, .int x2), (3, .int x3), (4, .int x4), (5, .int x5)] → mw D dA o A s S H locs → W p l e rM_classOf s m args below meth c H locs 0 0 (mQi below args s D dA o A post) (F0 m 100 ls [])) {v0 : Int32} {v1 : Int32} {x2 : Int32} {x3 : Int32} {x5 : Int32} {S : MS} (h : M_classOf_w127 post T51 T100 v0 v1 x2 x3 x5 S) {H : Heap} {locs : List Loc} {ls : Array Slot} (hl : lv_has ls 6 [(0, .ref (o 0)), (2, .int x2), (3, .int x3), (5, .int x5)]) (w : mw D dA o A s S H locs) : W p l e rM_classOf s m args below meth c H locs 0 0 (mQi below args s D dA o A post) (F0 m 127 ls [.int v0, .int v1]) := by
  unfold M_classOf_w127 at h
  obtain ⟨⟨hx, hb, hml, hown, hts⟩, hr, hlk, hA⟩ := id C
  refine lv_iadd hx hb dX5_classOf_127 ?_
  refine lv_istore (lv' := [(4, .int _), (0, .ref _), (2, .int _), (3, .int _), (5, .int _)]) hx hb dX5_classOf_128 hl (by decide) rfl (fun ls hl => ?_)
  refine lv_iinc (v := _ + (1 : Int32)) (lv' := [(5, .int _), (4, .int _), (0, .ref _), (2, .int _), (3, .int _)]) hx hb dX5_classOf_130 hl (k := 4) rfl rfl (by decide) rfl (fun ls hl => ?_)
  refine lv_goto (tgt := 100) hx hb dX5_classOf_133 (by decide) ?_
  exact hT100 _ _ _ _ _ h _ _ _ (lv_sub hl [2, 3, 4, 1, 0] rfl) w
def M_classOf_w100 (post : Int32 → MS → Prop) (T51 : Int32 → Int32 → Int32 → Int32 → MS → Prop) (T100 : Int32 → Int32 → Int32 → Int32 → MS → Prop) (x2 : Int32) (x3 : Int32) (x4 : Int32) (x5 : Int32) (S : MS) : Prop :=
  M_edgeLabel x2 x3 S (fun (r1 : Int32) (S1 : MS) => ((r1 ≤ x5 → post x4 S1) ∧ (¬ r1 ≤ x5 → M_isFirstEdge x5 S1 (fun (r2 : Int32) (S2 : MS) => ((r2 = 0 → M_classOf_w127 post T51 T100 (0 : Int32) x4 x2 x3 x5 S2) ∧ (¬ r2 = 0 → M_classOf_w127 post T51 T100 (1 : Int32) x4 x2 x3 x5 S2))))))
set_option maxHeartbeats 4000000 in
set_option maxRecDepth 100000 in
theorem M_classOf_a100 {p : Program} {l : Launch} {e : Env} {s : State} {m : MethodId} {args : Array Value} {below : List Frame} {meth : Method} {c : Code} {D : va_G} {dA : Nat → ClassId} {o : Nat → Nat} {A : Nat → Prop} {post : Int32 → MS → Prop} {T51 : Int32 → Int32 → Int32 → Int32 → MS → Prop} {T100 : Int32 → Int32 → Int32 → Int32 → MS → Prop} (C : mC p m c cX5_classOf 6 s args meth (Option.some Jvm.ClassFile.FieldType.int) A) (hT51 : ∀ (x2 : Int32) (x3 : Int32) (x4 : Int32) (x5 : Int32) (S : MS), T51 x2 x3 x4 x5 S → ∀ (H : Heap) (locs : List Loc) (ls : Array Slot), lv_has ls 6 [(0, .ref (o 0)), (2, .int x2), (3, .int x3), (4, .int x4), (5, .int x5)] → mw D dA o A s S H locs → W p l e rM_classOf s m args below meth c H locs 0 0 (mQi below args s D dA o A post) (F0 m 51 ls [])) (hT100 : ∀ (x2 : Int32) (x3 : Int32) (x4 : Int32) (x5 : Int32) (S : MS), T100 x2 x3 x4 x5 S → ∀ (H : Heap) (locs : List Loc) (ls : Array Slot), lv_has ls 6 [(0, .ref (o 0)), (2, .int x2), (3, .int x3), (4, .int x4), (5, .int x5)] → mw D dA o A s S H locs → W p l e rM_classOf s m args below meth c H locs 0 0 (mQi below args s D dA o A post) (F0 m 100 ls [])) {x2 : Int32} {x3 : Int32} {x4 : Int32} {x5 : Int32} {S : MS} (h : M_classOf_w100 post T51 T100 x2 x3 x4 x5 S) {H : Heap} {locs : List Loc} {ls : Array Slot} (hl : lv_has ls 6 [(0, .ref (o 0)), (2, .int x2), (3, .int x3), (4, .int x4), (5, .int x5)]) (w : mw D dA o A s S H locs) : W p l e rM_classOf s m args below meth c H locs 0 0 (mQi below args s D dA o A post) (F0 m 100 ls []) := by
  unfold M_classOf_w100 at h
  obtain ⟨⟨hx, hb, hml, hown, hts⟩, hr, hlk, hA⟩ := id C
  refine lv_iload hx hb dX5_classOf_100 (lv_at hl 4 rfl) ?_
  refine lv_aload_n hx hb dX5_classOf_102 rfl (lv_at hl 0 rfl) ?_
  refine lv_iload_n hx hb dX5_classOf_103 rfl (lv_at hl 1 rfl) ?_
  refine lv_iload_n hx hb dX5_classOf_104 rfl (lv_at hl 2 rfl) ?_
  refine mr_callVI (rest := [.int _]) C w h (lw_V q718 q720 qs42 q87 q721) M_edgeLabel_d rfl rfl ⟨Nat.le_of_ble_eq_true rfl, Nat.le_of_ble_eq_true rfl⟩ rfl hl.1 rfl (Nat.le_of_ble_eq_true rfl) ⟨Nat.zero_le _, Nat.zero_le _⟩ dX5_classOf_105 (fun r1 S1 H locs h w => ?_)
  obtain ⟨h1, h2⟩ := h
  refine lv_icmp_ge (tgt := 136) hx hb dX5_classOf_108 (by decide) (fun c1 => ?_) (fun c1 => ?_)
  · have h := h1 c1
    refine lv_iload hx hb dX5_classOf_136 (lv_at hl 3 rfl) ?_
    exact mr_iret C w h dX5_classOf_138
  · have h := h2 c1
    refine lv_iload hx hb dX5_classOf_111 (lv_at hl 3 rfl) ?_
    refine lv_aload_n hx hb dX5_classOf_113 rfl (lv_at hl 0 rfl) ?_
    refine lv_iload hx hb dX5_classOf_114 (lv_at hl 4 rfl) ?_
    refine mr_callVI (rest := [.int _]) C w h (lw_V q722 q724 qs43 q87 q725) M_isFirstEdge_d rfl rfl ⟨Nat.le_of_ble_eq_true rfl, Nat.le_of_ble_eq_true rfl⟩ rfl hl.1 rfl (Nat.le_of_ble_eq_true rfl) ⟨Nat.zero_le _, Nat.zero_le _⟩ dX5_classOf_116 (fun r2 S2 H locs h w => ?_)
    obtain ⟨h1, h2⟩ := h
    refine lv_if_eq (tgt := 126) hx hb dX5_classOf_119 (by decide) (fun c1 => ?_) (fun c1 => ?_)
    · have h := h1 c1
      refine lv_iconst (v := 0) hx hb dX5_classOf_126 (by decide) ?_
      exact M_classOf_a127 C hT51 hT100 h (lv_sub hl [0, 1, 2, 4] rfl) w
    · have h := h2 c1
      refine lv_iconst (v := 1) hx hb dX5_classOf_122 (by decide) ?_
      refine lv_goto (tgt := 127) hx hb dX5_classOf_123 (by decide) ?_
      exact M_classOf_a127 C hT51 hT100 h (lv_sub hl [0, 1, 2, 4] rfl) w
def M_classOf_w85 (post : Int32 → MS → Prop) (T51 : Int32 → Int32 → Int32 → Int32 → MS → Prop) (T100 : Int32 → Int32 → Int32 → Int32 → MS → Prop) (v0 : Int32) (v1 : Int32) (x2 : Int32) (x3 : Int32) (x5 : Int32) (S : MS) : Prop :=
  T51 x2 x3 (v1 + v0) (x5 + (1 : Int32)) S
set_option maxHeartbeats 4000000 in
set_option maxRecDepth 100000 in
theorem M_classOf_a85 {p : Program} {l : Launch} {e : Env} {s : State} {m : MethodId} {args : Array Value} {below : List Frame} {meth : Method} {c : Code} {D : va_G} {dA : Nat → ClassId} {o : Nat → Nat} {A : Nat → Prop} {post : Int32 → MS → Prop} {T51 : Int32 → Int32 → Int32 → Int32 → MS → Prop} {T100 : Int32 → Int32 → Int32 → Int32 → MS → Prop} (C : mC p m c cX5_classOf 6 s args meth (Option.some Jvm.ClassFile.FieldType.int) A) (hT51 : ∀ (x2 : Int32) (x3 : Int32) (x4 : Int32) (x5 : Int32) (S : MS), T51 x2 x3 x4 x5 S → ∀ (H : Heap) (locs : List Loc) (ls : Array Slot), lv_has ls 6 [(0, .ref (o 0)), (2, .int x2), (3, .int x3), (4, .int x4), (5, .int x5)] → mw D dA o A s S H locs → W p l e rM_classOf s m args below meth c H locs 0 0 (mQi below args s D dA o A post) (F0 m 51 ls [])) (hT100 : ∀ (x2 : Int32) (x3 : Int32) (x4 : Int32) (x5 : Int32) (S : MS), T100 x2 x3 x4 x5 S → ∀ (H : Heap) (locs : List Loc) (ls : Array Slot), lv_has ls 6 [(0, .ref (o 0)), (2, .int x2), (3, .int x3), (4, .int x4), (5, .int x5)] → mw D dA o A s S H locs → W p l e rM_classOf s m args below meth c H locs 0 0 (mQi below args s D dA o A post) (F0 m 100 ls [])) {v0 : Int32} {v1 : Int32} {x2 : Int32} {x3 : Int32} {x5 : Int32} {S : MS} (h : M_classOf_w85 post T51 T100 v0 v1 x2 x3 x5 S) {H : Heap} {locs : List Loc} {ls : Array Slot} (hl : lv_has ls 6 [(0, .ref (o 0)), (2, .int x2), (3, .int x3), (5, .int x5)]) (w : mw D dA o A s S H locs) : W p l e rM_classOf s m args below meth c H locs 0 0 (mQi below args s D dA o A post) (F0 m 85 ls [.int v0, .int v1]) := by
  unfold M_classOf_w85 at h
  obtain ⟨⟨hx, hb, hml, hown, hts⟩, hr, hlk, hA⟩ := id C
  refine lv_iadd hx hb dX5_classOf_85 ?_
  refine lv_istore (lv' := [(4, .int _), (0, .ref _), (2, .int _), (3, .int _), (5, .int _)]) hx hb dX5_classOf_86 hl (by decide) rfl (fun ls hl => ?_)
  refine lv_iinc (v := _ + (1 : Int32)) (lv' := [(5, .int _), (4, .int _), (0, .ref _), (2, .int _), (3, .int _)]) hx hb dX5_classOf_88 hl (k := 4) rfl rfl (by decide) rfl (fun ls hl => ?_)
  refine lv_goto (tgt := 51) hx hb dX5_classOf_91 (by decide) ?_
  exact hT51 _ _ _ _ _ h _ _ _ (lv_sub hl [2, 3, 4, 1, 0] rfl) w
def M_classOf_w51 (post : Int32 → MS → Prop) (T51 : Int32 → Int32 → Int32 → Int32 → MS → Prop) (T100 : Int32 → Int32 → Int32 → Int32 → MS → Prop) (x2 : Int32) (x3 : Int32) (x4 : Int32) (x5 : Int32) (S : MS) : Prop :=
  (vp_in (((4 : Int32) * x2) + x3) 12 ∧ (((gI S 7 ((((4 : Int32) * x2) + x3)).toNatClampNeg) ≤ x5 → post x4 S) ∧ (¬ (gI S 7 ((((4 : Int32) * x2) + x3)).toNatClampNeg) ≤ x5 → (vp_in x5 12 ∧ ((¬ (gI S 7 (x5).toNatClampNeg) = x5 → M_classOf_w85 post T51 T100 (0 : Int32) x4 x2 x3 x5 S) ∧ ((gI S 7 (x5).toNatClampNeg) = x5 → M_classOf_w85 post T51 T100 (1 : Int32) x4 x2 x3 x5 S))))))
set_option maxHeartbeats 4000000 in
set_option maxRecDepth 100000 in
theorem M_classOf_a51 {p : Program} {l : Launch} {e : Env} {s : State} {m : MethodId} {args : Array Value} {below : List Frame} {meth : Method} {c : Code} {D : va_G} {dA : Nat → ClassId} {o : Nat → Nat} {A : Nat → Prop} {post : Int32 → MS → Prop} {T51 : Int32 → Int32 → Int32 → Int32 → MS → Prop} {T100 : Int32 → Int32 → Int32 → Int32 → MS → Prop} (C : mC p m c cX5_classOf 6 s args meth (Option.some Jvm.ClassFile.FieldType.int) A) (hT51 : ∀ (x2 : Int32) (x3 : Int32) (x4 : Int32) (x5 : Int32) (S : MS), T51 x2 x3 x4 x5 S → ∀ (H : Heap) (locs : List Loc) (ls : Array Slot), lv_has ls 6 [(0, .ref (o 0)), (2, .int x2), (3, .int x3), (4, .int x4), (5, .int x5)] → mw D dA o A s S H locs → W p l e rM_classOf s m args below meth c H locs 0 0 (mQi below args s D dA o A post) (F0 m 51 ls [])) (hT100 : ∀ (x2 : Int32) (x3 : Int32) (x4 : Int32) (x5 : Int32) (S : MS), T100 x2 x3 x4 x5 S → ∀ (H : Heap) (locs : List Loc) (ls : Array Slot), lv_has ls 6 [(0, .ref (o 0)), (2, .int x2), (3, .int x3), (4, .int x4), (5, .int x5)] → mw D dA o A s S H locs → W p l e rM_classOf s m args below meth c H locs 0 0 (mQi below args s D dA o A post) (F0 m 100 ls [])) {x2 : Int32} {x3 : Int32} {x4 : Int32} {x5 : Int32} {S : MS} (h : M_classOf_w51 post T51 T100 x2 x3 x4 x5 S) {H : Heap} {locs : List Loc} {ls : Array Slot} (hl : lv_has ls 6 [(0, .ref (o 0)), (2, .int x2), (3, .int x3), (4, .int x4), (5, .int x5)]) (w : mw D dA o A s S H locs) : W p l e rM_classOf s m args below meth c H locs 0 0 (mQi below args s D dA o A post) (F0 m 51 ls []) := by
  unfold M_classOf_w51 at h
  obtain ⟨⟨hx, hb, hml, hown, hts⟩, hr, hlk, hA⟩ := id C
  refine lv_iload hx hb dX5_classOf_51 (lv_at hl 4 rfl) ?_
  refine lv_aload_n hx hb dX5_classOf_53 rfl (lv_at hl 0 rfl) ?_
  refine mr_get C w 7 (by decide) q584 rfl rfl dX5_classOf_54 ?_
  refine lv_iconst (v := 4) hx hb dX5_classOf_57 (by decide) ?_
  refine lv_iload_n hx hb dX5_classOf_58 rfl (lv_at hl 1 rfl) ?_
  refine lv_imul hx hb dX5_classOf_59 ?_
  refine lv_iload_n hx hb dX5_classOf_60 rfl (lv_at hl 2 rfl) ?_
  refine lv_iadd hx hb dX5_classOf_61 ?_
  obtain ⟨hi, h⟩ := h
  refine mr_iald C w 7 6 rfl rfl hi dX5_classOf_62 ?_
  obtain ⟨h1, h2⟩ := h
  refine lv_icmp_ge (tgt := 94) hx hb dX5_classOf_63 (by decide) (fun c1 => ?_) (fun c1 => ?_)
  · have h := h1 c1
    refine lv_iload hx hb dX5_classOf_94 (lv_at hl 3 rfl) ?_
    exact mr_iret C w h dX5_classOf_96
  · have h := h2 c1
    refine lv_iload hx hb dX5_classOf_66 (lv_at hl 3 rfl) ?_
    refine lv_aload_n hx hb dX5_classOf_68 rfl (lv_at hl 0 rfl) ?_
    refine mr_get C w 7 (by decide) q584 rfl rfl dX5_classOf_69 ?_
    refine lv_iload hx hb dX5_classOf_72 (lv_at hl 4 rfl) ?_
    obtain ⟨hi, h⟩ := h
    refine mr_iald C w 7 6 rfl rfl hi dX5_classOf_74 ?_
    refine lv_iload hx hb dX5_classOf_75 (lv_at hl 4 rfl) ?_
    obtain ⟨h1, h2⟩ := h
    refine lv_icmp_ne (tgt := 84) hx hb dX5_classOf_77 (by decide) (fun c1 => ?_) (fun c1 => ?_)
    · have h := h1 c1
      refine lv_iconst (v := 0) hx hb dX5_classOf_84 (by decide) ?_
      exact M_classOf_a85 C hT51 hT100 h (lv_sub hl [0, 1, 2, 4] rfl) w
    · have h := h2 c1
      refine lv_iconst (v := 1) hx hb dX5_classOf_80 (by decide) ?_
      refine lv_goto (tgt := 85) hx hb dX5_classOf_81 (by decide) ?_
      exact M_classOf_a85 C hT51 hT100 h (lv_sub hl [0, 1, 2, 4] rfl) w
def M_classOf_w34 (post : Int32 → MS → Prop) (T51 : Int32 → Int32 → Int32 → Int32 → MS → Prop) (T100 : Int32 → Int32 → Int32 → Int32 → MS → Prop) (S : MS) : Prop :=
  post (-2 : Int32) S
set_option maxHeartbeats 4000000 in
set_option maxRecDepth 100000 in
theorem M_classOf_a34 {p : Program} {l : Launch} {e : Env} {s : State} {m : MethodId} {args : Array Value} {below : List Frame} {meth : Method} {c : Code} {D : va_G} {dA : Nat → ClassId} {o : Nat → Nat} {A : Nat → Prop} {post : Int32 → MS → Prop} {T51 : Int32 → Int32 → Int32 → Int32 → MS → Prop} {T100 : Int32 → Int32 → Int32 → Int32 → MS → Prop} (C : mC p m c cX5_classOf 6 s args meth (Option.some Jvm.ClassFile.FieldType.int) A) (hT51 : ∀ (x2 : Int32) (x3 : Int32) (x4 : Int32) (x5 : Int32) (S : MS), T51 x2 x3 x4 x5 S → ∀ (H : Heap) (locs : List Loc) (ls : Array Slot), lv_has ls 6 [(0, .ref (o 0)), (2, .int x2), (3, .int x3), (4, .int x4), (5, .int x5)] → mw D dA o A s S H locs → W p l e rM_classOf s m args below meth c H locs 0 0 (mQi below args s D dA o A post) (F0 m 51 ls [])) (hT100 : ∀ (x2 : Int32) (x3 : Int32) (x4 : Int32) (x5 : Int32) (S : MS), T100 x2 x3 x4 x5 S → ∀ (H : Heap) (locs : List Loc) (ls : Array Slot), lv_has ls 6 [(0, .ref (o 0)), (2, .int x2), (3, .int x3), (4, .int x4), (5, .int x5)] → mw D dA o A s S H locs → W p l e rM_classOf s m args below meth c H locs 0 0 (mQi below args s D dA o A post) (F0 m 100 ls [])) {S : MS} (h : M_classOf_w34 post T51 T100 S) {H : Heap} {locs : List Loc} {ls : Array Slot} (hl : lv_has ls 6 [(0, .ref (o 0))]) (w : mw D dA o A s S H locs) : W p l e rM_classOf s m args below meth c H locs 0 0 (mQi below args s D dA o A post) (F0 m 34 ls []) := by
  unfold M_classOf_w34 at h
  obtain ⟨⟨hx, hb, hml, hown, hts⟩, hr, hlk, hA⟩ := id C
  refine lv_bipush (v := -2) hx hb dX5_classOf_34 (by decide) ?_
  exact mr_iret C w h dX5_classOf_36
def M_classOf_w28 (post : Int32 → MS → Prop) (T51 : Int32 → Int32 → Int32 → Int32 → MS → Prop) (T100 : Int32 → Int32 → Int32 → Int32 → MS → Prop) (v0 : Int32) (v1 : Int32) (v2 : Int32) (x1 : Int32) (x2 : Int32) (x3 : Int32) (S : MS) : Prop :=
  M_in v2 v1 v0 S (fun (r1 : Int32) (S1 : MS) => ((¬ r1 = 0 → M_label S1 (fun (S2 : MS) => ((¬ x1 = 0 → T100 x2 x3 (0 : Int32) (0 : Int32) S2) ∧ (x1 = 0 → T51 x2 x3 (0 : Int32) (0 : Int32) S2)))) ∧ (r1 = 0 → M_classOf_w34 post T51 T100 S1)))
set_option maxHeartbeats 4000000 in
set_option maxRecDepth 100000 in
theorem M_classOf_a28 {p : Program} {l : Launch} {e : Env} {s : State} {m : MethodId} {args : Array Value} {below : List Frame} {meth : Method} {c : Code} {D : va_G} {dA : Nat → ClassId} {o : Nat → Nat} {A : Nat → Prop} {post : Int32 → MS → Prop} {T51 : Int32 → Int32 → Int32 → Int32 → MS → Prop} {T100 : Int32 → Int32 → Int32 → Int32 → MS → Prop} (C : mC p m c cX5_classOf 6 s args meth (Option.some Jvm.ClassFile.FieldType.int) A) (hT51 : ∀ (x2 : Int32) (x3 : Int32) (x4 : Int32) (x5 : Int32) (S : MS), T51 x2 x3 x4 x5 S → ∀ (H : Heap) (locs : List Loc) (ls : Array Slot), lv_has ls 6 [(0, .ref (o 0)), (2, .int x2), (3, .int x3), (4, .int x4), (5, .int x5)] → mw D dA o A s S H locs → W p l e rM_classOf s m args below meth c H locs 0 0 (mQi below args s D dA o A post) (F0 m 51 ls [])) (hT100 : ∀ (x2 : Int32) (x3 : Int32) (x4 : Int32) (x5 : Int32) (S : MS), T100 x2 x3 x4 x5 S → ∀ (H : Heap) (locs : List Loc) (ls : Array Slot), lv_has ls 6 [(0, .ref (o 0)), (2, .int x2), (3, .int x3), (4, .int x4), (5, .int x5)] → mw D dA o A s S H locs → W p l e rM_classOf s m args below meth c H locs 0 0 (mQi below args s D dA o A post) (F0 m 100 ls [])) {v0 : Int32} {v1 : Int32} {v2 : Int32} {x1 : Int32} {x2 : Int32} {x3 : Int32} {S : MS} (h : M_classOf_w28 post T51 T100 v0 v1 v2 x1 x2 x3 S) {H : Heap} {locs : List Loc} {ls : Array Slot} (hl : lv_has ls 6 [(0, .ref (o 0)), (1, .int x1), (2, .int x2), (3, .int x3)]) (w : mw D dA o A s S H locs) : W p l e rM_classOf s m args below meth c H locs 0 0 (mQi below args s D dA o A post) (F0 m 28 ls [.int v0, .int v1, .int v2]) := by
  unfold M_classOf_w28 at h
  obtain ⟨⟨hx, hb, hml, hown, hts⟩, hr, hlk, hA⟩ := id C
  refine mr_callSI (rest := []) C w h (lw_S q676 q677 q87 q678) M_in_d rfl rfl ⟨Nat.le_of_ble_eq_true rfl, Nat.le_of_ble_eq_true rfl⟩ rfl hl.1 rfl (Nat.le_of_ble_eq_true rfl) ⟨Nat.zero_le _, Nat.zero_le _⟩ dX5_classOf_28 (fun r1 S1 H locs h w => ?_)
  obtain ⟨h1, h2⟩ := h
  refine lv_if_ne (tgt := 37) hx hb dX5_classOf_31 (by decide) (fun c1 => ?_) (fun c1 => ?_)
  · have h := h1 c1
    refine lv_aload_n hx hb dX5_classOf_37 rfl (lv_at hl 0 rfl) ?_
    refine mr_callVV (rest := []) C w h (lw_V q695 q697 qs37 q87 q698) M_label_d rfl rfl ⟨Nat.le_of_ble_eq_true rfl, Nat.le_of_ble_eq_true rfl⟩ rfl hl.1 rfl (Nat.le_of_ble_eq_true rfl) ⟨Nat.zero_le _, Nat.zero_le _⟩ dX5_classOf_38 (fun S2 H locs h w => ?_)
    refine lv_iconst (v := 0) hx hb dX5_classOf_41 (by decide) ?_
    refine lv_istore (lv' := [(4, .int _), (0, .ref _), (1, .int _), (2, .int _), (3, .int _)]) hx hb dX5_classOf_42 hl (by decide) rfl (fun ls hl => ?_)
    refine lv_iload_n hx hb dX5_classOf_44 rfl (lv_at hl 2 rfl) ?_
    obtain ⟨h1, h2⟩ := h
    refine lv_if_ne (tgt := 97) hx hb dX5_classOf_45 (by decide) (fun c1 => ?_) (fun c1 => ?_)
    · have h := h1 c1
      refine lv_iconst (v := 0) hx hb dX5_classOf_97 (by decide) ?_
      refine lv_istore (lv' := [(5, .int _), (4, .int _), (0, .ref _), (1, .int _), (2, .int _), (3, .int _)]) hx hb dX5_classOf_98 hl (by decide) rfl (fun ls hl => ?_)
      exact hT100 _ _ _ _ _ h _ _ _ (lv_sub hl [2, 4, 5, 1, 0] rfl) w
    · have h := h2 c1
      refine lv_iconst (v := 0) hx hb dX5_classOf_48 (by decide) ?_
      refine lv_istore (lv' := [(5, .int _), (4, .int _), (0, .ref _), (1, .int _), (2, .int _), (3, .int _)]) hx hb dX5_classOf_49 hl (by decide) rfl (fun ls hl => ?_)
      exact hT51 _ _ _ _ _ h _ _ _ (lv_sub hl [2, 4, 5, 1, 0] rfl) w
  · have h := h2 c1
    exact M_classOf_a34 C hT51 hT100 h (lv_sub hl [0] rfl) w
def M_classOf_w0 (post : Int32 → MS → Prop) (T51 : Int32 → Int32 → Int32 → Int32 → MS → Prop) (T100 : Int32 → Int32 → Int32 → Int32 → MS → Prop) (x1 : Int32) (x2 : Int32) (x3 : Int32) (S : MS) : Prop :=
  M_in x1 (0 : Int32) (1 : Int32) S (fun (r1 : Int32) (S1 : MS) => ((r1 = 0 → M_classOf_w34 post T51 T100 S1) ∧ (¬ r1 = 0 → M_isPiece x2 S1 (fun (r2 : Int32) (S2 : MS) => ((r2 = 0 → M_classOf_w34 post T51 T100 S2) ∧ (¬ r2 = 0 → ((¬ x1 = 0 → M_classOf_w28 post T51 T100 (5 : Int32) (0 : Int32) x3 x1 x2 x3 S2) ∧ (x1 = 0 → M_classOf_w28 post T51 T100 (3 : Int32) (0 : Int32) x3 x1 x2 x3 S2))))))))
set_option maxHeartbeats 4000000 in
set_option maxRecDepth 100000 in
theorem M_classOf_a0 {p : Program} {l : Launch} {e : Env} {s : State} {m : MethodId} {args : Array Value} {below : List Frame} {meth : Method} {c : Code} {D : va_G} {dA : Nat → ClassId} {o : Nat → Nat} {A : Nat → Prop} {post : Int32 → MS → Prop} {T51 : Int32 → Int32 → Int32 → Int32 → MS → Prop} {T100 : Int32 → Int32 → Int32 → Int32 → MS → Prop} (C : mC p m c cX5_classOf 6 s args meth (Option.some Jvm.ClassFile.FieldType.int) A) (hT51 : ∀ (x2 : Int32) (x3 : Int32) (x4 : Int32) (x5 : Int32) (S : MS), T51 x2 x3 x4 x5 S → ∀ (H : Heap) (locs : List Loc) (ls : Array Slot), lv_has ls 6 [(0, .ref (o 0)), (2, .int x2), (3, .int x3), (4, .int x4), (5, .int x5)] → mw D dA o A s S H locs → W p l e rM_classOf s m args below meth c H locs 0 0 (mQi below args s D dA o A post) (F0 m 51 ls [])) (hT100 : ∀ (x2 : Int32) (x3 : Int32) (x4 : Int32) (x5 : Int32) (S : MS), T100 x2 x3 x4 x5 S → ∀ (H : Heap) (locs : List Loc) (ls : Array Slot), lv_has ls 6 [(0, .ref (o 0)), (2, .int x2), (3, .int x3), (4, .int x4), (5, .int x5)] → mw D dA o A s S H locs → W p l e rM_classOf s m args below meth c H locs 0 0 (mQi below args s D dA o A post) (F0 m 100 ls [])) {x1 : Int32} {x2 : Int32} {x3 : Int32} {S : MS} (h : M_classOf_w0 post T51 T100 x1 x2 x3 S) {H : Heap} {locs : List Loc} {ls : Array Slot} (hl : lv_has ls 6 [(0, .ref (o 0)), (1, .int x1), (2, .int x2), (3, .int x3)]) (w : mw D dA o A s S H locs) : W p l e rM_classOf s m args below meth c H locs 0 0 (mQi below args s D dA o A post) (F0 m 0 ls []) := by
  unfold M_classOf_w0 at h
  obtain ⟨⟨hx, hb, hml, hown, hts⟩, hr, hlk, hA⟩ := id C
  refine lv_iload_n hx hb dX5_classOf_0 rfl (lv_at hl 1 rfl) ?_
  refine lv_iconst (v := 0) hx hb dX5_classOf_1 (by decide) ?_
  refine lv_iconst (v := 1) hx hb dX5_classOf_2 (by decide) ?_
  refine mr_callSI (rest := []) C w h (lw_S q676 q677 q87 q678) M_in_d rfl rfl ⟨Nat.le_of_ble_eq_true rfl, Nat.le_of_ble_eq_true rfl⟩ rfl hl.1 rfl (Nat.le_of_ble_eq_true rfl) ⟨Nat.zero_le _, Nat.zero_le _⟩ dX5_classOf_3 (fun r1 S1 H locs h w => ?_)
  obtain ⟨h1, h2⟩ := h
  refine lv_if_eq (tgt := 34) hx hb dX5_classOf_6 (by decide) (fun c1 => ?_) (fun c1 => ?_)
  · have h := h1 c1
    exact M_classOf_a34 C hT51 hT100 h (lv_sub hl [0] rfl) w
  · have h := h2 c1
    refine lv_aload_n hx hb dX5_classOf_9 rfl (lv_at hl 0 rfl) ?_
    refine lv_iload_n hx hb dX5_classOf_10 rfl (lv_at hl 2 rfl) ?_
    refine mr_callVI (rest := []) C w h (lw_V q672 q674 qs36 q87 q675) M_isPiece_d rfl rfl ⟨Nat.le_of_ble_eq_true rfl, Nat.le_of_ble_eq_true rfl⟩ rfl hl.1 rfl (Nat.le_of_ble_eq_true rfl) ⟨Nat.zero_le _, Nat.zero_le _⟩ dX5_classOf_11 (fun r2 S2 H locs h w => ?_)
    obtain ⟨h1, h2⟩ := h
    refine lv_if_eq (tgt := 34) hx hb dX5_classOf_14 (by decide) (fun c1 => ?_) (fun c1 => ?_)
    · have h := h1 c1
      exact M_classOf_a34 C hT51 hT100 h (lv_sub hl [0] rfl) w
    · have h := h2 c1
      refine lv_iload_n hx hb dX5_classOf_17 rfl (lv_at hl 3 rfl) ?_
      refine lv_iconst (v := 0) hx hb dX5_classOf_18 (by decide) ?_
      refine lv_iload_n hx hb dX5_classOf_19 rfl (lv_at hl 1 rfl) ?_
      obtain ⟨h1, h2⟩ := h
      refine lv_if_ne (tgt := 27) hx hb dX5_classOf_20 (by decide) (fun c1 => ?_) (fun c1 => ?_)
      · have h := h1 c1
        refine lv_iconst (v := 5) hx hb dX5_classOf_27 (by decide) ?_
        exact M_classOf_a28 C hT51 hT100 h (lv_sub hl [0, 1, 2, 3] rfl) w
      · have h := h2 c1
        refine lv_iconst (v := 3) hx hb dX5_classOf_23 (by decide) ?_
        refine lv_goto (tgt := 28) hx hb dX5_classOf_24 (by decide) ?_
        exact M_classOf_a28 C hT51 hT100 h (lv_sub hl [0, 1, 2, 3] rfl) w
def M_classOf_VC (x1 : Int32) (x2 : Int32) (x3 : Int32) (S : MS) (post : Int32 → MS → Prop) : Prop := ∀ (T51 : Int32 → Int32 → Int32 → Int32 → MS → Prop) (T100 : Int32 → Int32 → Int32 → Int32 → MS → Prop), (∀ (x2 : Int32) (x3 : Int32) (x4 : Int32) (x5 : Int32) (S : MS), M_classOf_w51 post T51 T100 x2 x3 x4 x5 S → T51 x2 x3 x4 x5 S) → (∀ (x2 : Int32) (x3 : Int32) (x4 : Int32) (x5 : Int32) (S : MS), M_classOf_w100 post T51 T100 x2 x3 x4 x5 S → T100 x2 x3 x4 x5 S) → M_classOf_w0 post T51 T100 x1 x2 x3 S
theorem M_classOf_ok {x1 : Int32} {x2 : Int32} {x3 : Int32} {S : MS} {post : Int32 → MS → Prop} (h : M_classOf_VC x1 x2 x3 S post) : M_classOf x1 x2 x3 S post := by
  intro l D dA o sz
  refine mr_start (fun A => va_Qi post (mB D dA o A) A) rfl (Nat.le_of_ble_eq_true rfl) (by decide) ?_
  intro p e s m args below meth c ls A C w hl
  have hl : lv_has ls 6 [(0, .ref (o 0)), (1, .int x1), (2, .int x2), (3, .int x3)] := hl
  have h := h (fun (x2 : Int32) (x3 : Int32) (x4 : Int32) (x5 : Int32) S => ∀ (H : Heap) (locs : List Loc) (ls : Array Slot), lv_has ls 6 [(0, .ref (o 0)), (2, .int x2), (3, .int x3), (4, .int x4), (5, .int x5)] → mw D dA o A s S H locs → W p l e rM_classOf s m args below meth c H locs 0 0 (mQi below args s D dA o A post) (F0 m 51 ls [])) (fun (x2 : Int32) (x3 : Int32) (x4 : Int32) (x5 : Int32) S => ∀ (H : Heap) (locs : List Loc) (ls : Array Slot), lv_has ls 6 [(0, .ref (o 0)), (2, .int x2), (3, .int x3), (4, .int x4), (5, .int x5)] → mw D dA o A s S H locs → W p l e rM_classOf s m args below meth c H locs 0 0 (mQi below args s D dA o A post) (F0 m 100 ls [])) (fun _ _ _ _ S h H locs ls hl w => M_classOf_a51 C (fun _ _ _ _ _ h => h) (fun _ _ _ _ _ h => h) h hl w) (fun _ _ _ _ S h H locs ls hl w => M_classOf_a100 C (fun _ _ _ _ _ h => h) (fun _ _ _ _ _ h => h) h hl w)
  exact M_classOf_a0 C (fun _ _ _ _ _ h => h) (fun _ _ _ _ _ h => h) h (lv_sub hl [0, 1, 2, 3] rfl) w

/-! bent(I)I -/
def M_bent_w33 (post : Int32 → MS → Prop) (v0 : Int32) (S : MS) : Prop :=
  post v0 S
set_option maxHeartbeats 4000000 in
set_option maxRecDepth 100000 in
theorem M_bent_a33 {p : Program} {l : Launch} {e : Env} {s : State} {m : MethodId} {args : Array Value} {below : List Frame} {meth : Method} {c : Code} {D : va_G} {dA : Nat → ClassId} {o : Nat → Nat} {A : Nat → Prop} {post : Int32 → MS → Prop} (C : mC p m c cX5_bent 3 s args meth (Option.some Jvm.ClassFile.FieldType.int) A) {v0 : Int32} {S : MS} (h : M_bent_w33 post v0 S) {H : Heap} {locs : List Loc} {ls : Array Slot} (hl : lv_has ls 3 [(0, .ref (o 0))]) (w : mw D dA o A s S H locs) : W p l e rM_bent s m args below meth c H locs 0 0 (mQi below args s D dA o A post) (F0 m 33 ls [.int v0]) := by
  unfold M_bent_w33 at h
  obtain ⟨⟨hx, hb, hml, hown, hts⟩, hr, hlk, hA⟩ := id C
  exact mr_iret C w h dX5_bent_33
def M_bent_w0 (post : Int32 → MS → Prop) (x1 : Int32) (S : MS) : Prop :=
  M_label S (fun (S1 : MS) => M_edgeOfClass x1 S1 (fun (r2 : Int32) (S2 : MS) => ((¬ r2 = (-1 : Int32) → M_isBent r2 S2 (fun (r3 : Int32) (S3 : MS) => ((r3 = 0 → M_bent_w33 post (0 : Int32) S3) ∧ (¬ r3 = 0 → M_bent_w33 post (1 : Int32) S3)))) ∧ (r2 = (-1 : Int32) → M_bent_w33 post (-2 : Int32) S2))))
set_option maxHeartbeats 4000000 in
set_option maxRecDepth 100000 in
theorem M_bent_a0 {p : Program} {l : Launch} {e : Env} {s : State} {m : MethodId} {args : Array Value} {below : List Frame} {meth : Method} {c : Code} {D : va_G} {dA : Nat → ClassId} {o : Nat → Nat} {A : Nat → Prop} {post : Int32 → MS → Prop} (C : mC p m c cX5_bent 3 s args meth (Option.some Jvm.ClassFile.FieldType.int) A) {x1 : Int32} {S : MS} (h : M_bent_w0 post x1 S) {H : Heap} {locs : List Loc} {ls : Array Slot} (hl : lv_has ls 3 [(0, .ref (o 0)), (1, .int x1)]) (w : mw D dA o A s S H locs) : W p l e rM_bent s m args below meth c H locs 0 0 (mQi below args s D dA o A post) (F0 m 0 ls []) := by
  unfold M_bent_w0 at h
  obtain ⟨⟨hx, hb, hml, hown, hts⟩, hr, hlk, hA⟩ := id C
  refine lv_aload_n hx hb dX5_bent_0 rfl (lv_at hl 0 rfl) ?_
  refine mr_callVV (rest := []) C w h (lw_V q695 q697 qs37 q87 q698) M_label_d rfl rfl ⟨Nat.le_of_ble_eq_true rfl, Nat.le_of_ble_eq_true rfl⟩ rfl hl.1 rfl (Nat.le_of_ble_eq_true rfl) ⟨Nat.zero_le _, Nat.zero_le _⟩ dX5_bent_1 (fun S1 H locs h w => ?_)
  refine lv_aload_n hx hb dX5_bent_4 rfl (lv_at hl 0 rfl) ?_
  refine lv_iload_n hx hb dX5_bent_5 rfl (lv_at hl 1 rfl) ?_
  refine mr_callVI (rest := []) C w h (lw_V q730 q732 qs44 q87 q733) M_edgeOfClass_d rfl rfl ⟨Nat.le_of_ble_eq_true rfl, Nat.le_of_ble_eq_true rfl⟩ rfl hl.1 rfl (Nat.le_of_ble_eq_true rfl) ⟨Nat.zero_le _, Nat.zero_le _⟩ dX5_bent_6 (fun r2 S2 H locs h w => ?_)
  refine lv_istore_n (lv' := [(2, .int _), (0, .ref _), (1, .int _)]) hx hb dX5_bent_9 rfl hl (by decide) rfl (fun ls hl => ?_)
  refine lv_iload_n hx hb dX5_bent_10 rfl (lv_at hl 0 rfl) ?_
  refine lv_iconst (v := -1) hx hb dX5_bent_11 (by decide) ?_
  obtain ⟨h1, h2⟩ := h
  refine lv_icmp_ne (tgt := 20) hx hb dX5_bent_12 (by decide) (fun c1 => ?_) (fun c1 => ?_)
  · have h := h1 c1
    refine lv_aload_n hx hb dX5_bent_20 rfl (lv_at hl 1 rfl) ?_
    refine lv_iload_n hx hb dX5_bent_21 rfl (lv_at hl 0 rfl) ?_
    refine mr_callVI (rest := []) C w h (lw_V q734 q736 qs45 q87 q737) M_isBent_d rfl rfl ⟨Nat.le_of_ble_eq_true rfl, Nat.le_of_ble_eq_true rfl⟩ rfl hl.1 rfl (Nat.le_of_ble_eq_true rfl) ⟨Nat.zero_le _, Nat.zero_le _⟩ dX5_bent_22 (fun r3 S3 H locs h w => ?_)
    obtain ⟨h1, h2⟩ := h
    refine lv_if_eq (tgt := 32) hx hb dX5_bent_25 (by decide) (fun c1 => ?_) (fun c1 => ?_)
    · have h := h1 c1
      refine lv_iconst (v := 0) hx hb dX5_bent_32 (by decide) ?_
      exact M_bent_a33 C h (lv_sub hl [1] rfl) w
    · have h := h2 c1
      refine lv_iconst (v := 1) hx hb dX5_bent_28 (by decide) ?_
      refine lv_goto (tgt := 33) hx hb dX5_bent_29 (by decide) ?_
      exact M_bent_a33 C h (lv_sub hl [1] rfl) w
  · have h := h2 c1
    refine lv_bipush (v := -2) hx hb dX5_bent_15 (by decide) ?_
    refine lv_goto (tgt := 33) hx hb dX5_bent_17 (by decide) ?_
    exact M_bent_a33 C h (lv_sub hl [1] rfl) w
def M_bent_VC (x1 : Int32) (S : MS) (post : Int32 → MS → Prop) : Prop := M_bent_w0 post x1 S
theorem M_bent_ok {x1 : Int32} {S : MS} {post : Int32 → MS → Prop} (h : M_bent_VC x1 S post) : M_bent x1 S post := by
  intro l D dA o sz
  refine mr_start (fun A => va_Qi post (mB D dA o A) A) rfl (Nat.le_of_ble_eq_true rfl) (by decide) ?_
  intro p e s m args below meth c ls A C w hl
  have hl : lv_has ls 3 [(0, .ref (o 0)), (1, .int x1)] := hl
  exact M_bent_a0 C h (lv_sub hl [0, 1] rfl) w

/-! linkOf(I)I -/
def M_linkOf_w142 (post : Int32 → MS → Prop) (T10 : Int32 → Int32 → Int32 → Int32 → Int32 → MS → Prop) (T47 : Int32 → Int32 → Int32 → Int32 → Int32 → Int32 → Int32 → MS → Prop) (x1 : Int32) (x2 : Int32) (x3 : Int32) (x4 : Int32) (x5 : Int32) (S : MS) : Prop :=
  T10 x1 x2 x3 x4 (x5 + (1 : Int32)) S
set_option maxHeartbeats 4000000 in
set_option maxRecDepth 100000 in
theorem M_linkOf_a142 {p : Program} {l : Launch} {e : Env} {s : State} {m : MethodId} {args : Array Value} {below : List Frame} {meth : Method} {c : Code} {D : va_G} {dA : Nat → ClassId} {o : Nat → Nat} {A : Nat → Prop} {post : Int32 → MS → Prop} {T10 : Int32 → Int32 → Int32 → Int32 → Int32 → MS → Prop} {T47 : Int32 → Int32 → Int32 → Int32 → Int32 → Int32 → Int32 → MS → Prop} (C : mC p m c cX5_linkOf 10 s args meth (Option.some Jvm.ClassFile.FieldType.int) A) (hT10 : ∀ (x1 : Int32) (x2 : Int32) (x3 : Int32) (x4 : Int32) (x5 : Int32) (S : MS), T10 x1 x2 x3 x4 x5 S → ∀ (H : Heap) (locs : List Loc) (ls : Array Slot), lv_has ls 10 [(0, .ref (o 0)), (1, .int x1), (2, .int x2), (3, .int x3), (4, .int x4), (5, .int x5)] → mw D dA o A s S H locs → W p l e rM_linkOf s m args below meth c H locs 0 0 (mQi below args s D dA o A post) (F0 m 10 ls [])) (hT47 : ∀ (x1 : Int32) (x2 : Int32) (x3 : Int32) (x4 : Int32) (x5 : Int32) (x6 : Int32) (x7 : Int32) (S : MS), T47 x1 x2 x3 x4 x5 x6 x7 S → ∀ (H : Heap) (locs : List Loc) (ls : Array Slot), lv_has ls 10 [(0, .ref (o 0)), (1, .int x1), (2, .int x2), (3, .int x3), (4, .int x4), (5, .int x5), (6, .int x6), (7, .int x7)] → mw D dA o A s S H locs → W p l e rM_linkOf s m args below meth c H locs 0 0 (mQi below args s D dA o A post) (F0 m 47 ls [])) {x1 : Int32} {x2 : Int32} {x3 : Int32} {x4 : Int32} {x5 : Int32} {S : MS} (h : M_linkOf_w142 post T10 T47 x1 x2 x3 x4 x5 S) {H : Heap} {locs : List Loc} {ls : Array Slot} (hl : lv_has ls 10 [(0, .ref (o 0)), (1, .int x1), (2, .int x2), (3, .int x3), (4, .int x4), (5, .int x5)]) (w : mw D dA o A s S H locs) : W p l e rM_linkOf s m args below meth c H locs 0 0 (mQi below args s D dA o A post) (F0 m 142 ls []) := by
  unfold M_linkOf_w142 at h
  obtain ⟨⟨hx, hb, hml, hown, hts⟩, hr, hlk, hA⟩ := id C
  refine lv_iinc (v := _ + (1 : Int32)) (lv' := [(5, .int _), (0, .ref _), (1, .int _), (2, .int _), (3, .int _), (4, .int _)]) hx hb dX5_linkOf_142 hl (k := 5) rfl rfl (by decide) rfl (fun ls hl => ?_)
  refine lv_goto (tgt := 10) hx hb dX5_linkOf_145 (by decide) ?_
  exact hT10 _ _ _ _ _ _ h _ _ _ (lv_sub hl [1, 2, 3, 4, 5, 0] rfl) w
def M_linkOf_w136 (post : Int32 → MS → Prop) (T10 : Int32 → Int32 → Int32 → Int32 → Int32 → MS → Prop) (T47 : Int32 → Int32 → Int32 → Int32 → Int32 → Int32 → Int32 → MS → Prop) (x1 : Int32) (x2 : Int32) (x3 : Int32) (x4 : Int32) (x5 : Int32) (x6 : Int32) (x7 : Int32) (S : MS) : Prop :=
  T47 x1 x2 x3 x4 x5 x6 (x7 + (1 : Int32)) S
set_option maxHeartbeats 4000000 in
set_option maxRecDepth 100000 in
theorem M_linkOf_a136 {p : Program} {l : Launch} {e : Env} {s : State} {m : MethodId} {args : Array Value} {below : List Frame} {meth : Method} {c : Code} {D : va_G} {dA : Nat → ClassId} {o : Nat → Nat} {A : Nat → Prop} {post : Int32 → MS → Prop} {T10 : Int32 → Int32 → Int32 → Int32 → Int32 → MS → Prop} {T47 : Int32 → Int32 → Int32 → Int32 → Int32 → Int32 → Int32 → MS → Prop} (C : mC p m c cX5_linkOf 10 s args meth (Option.some Jvm.ClassFile.FieldType.int) A) (hT10 : ∀ (x1 : Int32) (x2 : Int32) (x3 : Int32) (x4 : Int32) (x5 : Int32) (S : MS), T10 x1 x2 x3 x4 x5 S → ∀ (H : Heap) (locs : List Loc) (ls : Array Slot), lv_has ls 10 [(0, .ref (o 0)), (1, .int x1), (2, .int x2), (3, .int x3), (4, .int x4), (5, .int x5)] → mw D dA o A s S H locs → W p l e rM_linkOf s m args below meth c H locs 0 0 (mQi below args s D dA o A post) (F0 m 10 ls [])) (hT47 : ∀ (x1 : Int32) (x2 : Int32) (x3 : Int32) (x4 : Int32) (x5 : Int32) (x6 : Int32) (x7 : Int32) (S : MS), T47 x1 x2 x3 x4 x5 x6 x7 S → ∀ (H : Heap) (locs : List Loc) (ls : Array Slot), lv_has ls 10 [(0, .ref (o 0)), (1, .int x1), (2, .int x2), (3, .int x3), (4, .int x4), (5, .int x5), (6, .int x6), (7, .int x7)] → mw D dA o A s S H locs → W p l e rM_linkOf s m args below meth c H locs 0 0 (mQi below args s D dA o A post) (F0 m 47 ls [])) {x1 : Int32} {x2 : Int32} {x3 : Int32} {x4 : Int32} {x5 : Int32} {x6 : Int32} {x7 : Int32} {S : MS} (h : M_linkOf_w136 post T10 T47 x1 x2 x3 x4 x5 x6 x7 S) {H : Heap} {locs : List Loc} {ls : Array Slot} (hl : lv_has ls 10 [(0, .ref (o 0)), (1, .int x1), (2, .int x2), (3, .int x3), (4, .int x4), (5, .int x5), (6, .int x6), (7, .int x7)]) (w : mw D dA o A s S H locs) : W p l e rM_linkOf s m args below meth c H locs 0 0 (mQi below args s D dA o A post) (F0 m 136 ls []) := by
  unfold M_linkOf_w136 at h
  obtain ⟨⟨hx, hb, hml, hown, hts⟩, hr, hlk, hA⟩ := id C
  refine lv_iinc (v := _ + (1 : Int32)) (lv' := [(7, .int _), (0, .ref _), (1, .int _), (2, .int _), (3, .int _), (4, .int _), (5, .int _), (6, .int _)]) hx hb dX5_linkOf_136 hl (k := 7) rfl rfl (by decide) rfl (fun ls hl => ?_)
  refine lv_goto (tgt := 47) hx hb dX5_linkOf_139 (by decide) ?_
  exact hT47 _ _ _ _ _ _ _ _ h _ _ _ (lv_sub hl [1, 2, 3, 4, 5, 6, 7, 0] rfl) w
def M_linkOf_w134 (post : Int32 → MS → Prop) (T10 : Int32 → Int32 → Int32 → Int32 → Int32 → MS → Prop) (T47 : Int32 → Int32 → Int32 → Int32 → Int32 → Int32 → Int32 → MS → Prop) (v0 : Int32) (v1 : Int32) (x1 : Int32) (x2 : Int32) (x4 : Int32) (x5 : Int32) (x6 : Int32) (x7 : Int32) (S : MS) : Prop :=
  M_linkOf_w136 post T10 T47 x1 x2 (v1 + v0) x4 x5 x6 x7 S
set_option maxHeartbeats 4000000 in
set_option maxRecDepth 100000 in
theorem M_linkOf_a134 {p : Program} {l : Launch} {e : Env} {s : State} {m : MethodId} {args : Array Value} {below : List Frame} {meth : Method} {c : Code} {D : va_G} {dA : Nat → ClassId} {o : Nat → Nat} {A : Nat → Prop} {post : Int32 → MS → Prop} {T10 : Int32 → Int32 → Int32 → Int32 → Int32 → MS → Prop} {T47 : Int32 → Int32 → Int32 → Int32 → Int32 → Int32 → Int32 → MS → Prop} (C : mC p m c cX5_linkOf 10 s args meth (Option.some Jvm.ClassFile.FieldType.int) A) (hT10 : ∀ (x1 : Int32) (x2 : Int32) (x3 : Int32) (x4 : Int32) (x5 : Int32) (S : MS), T10 x1 x2 x3 x4 x5 S → ∀ (H : Heap) (locs : List Loc) (ls : Array Slot), lv_has ls 10 [(0, .ref (o 0)), (1, .int x1), (2, .int x2), (3, .int x3), (4, .int x4), (5, .int x5)] → mw D dA o A s S H locs → W p l e rM_linkOf s m args below meth c H locs 0 0 (mQi below args s D dA o A post) (F0 m 10 ls [])) (hT47 : ∀ (x1 : Int32) (x2 : Int32) (x3 : Int32) (x4 : Int32) (x5 : Int32) (x6 : Int32) (x7 : Int32) (S : MS), T47 x1 x2 x3 x4 x5 x6 x7 S → ∀ (H : Heap) (locs : List Loc) (ls : Array Slot), lv_has ls 10 [(0, .ref (o 0)), (1, .int x1), (2, .int x2), (3, .int x3), (4, .int x4), (5, .int x5), (6, .int x6), (7, .int x7)] → mw D dA o A s S H locs → W p l e rM_linkOf s m args below meth c H locs 0 0 (mQi below args s D dA o A post) (F0 m 47 ls [])) {v0 : Int32} {v1 : Int32} {x1 : Int32} {x2 : Int32} {x4 : Int32} {x5 : Int32} {x6 : Int32} {x7 : Int32} {S : MS} (h : M_linkOf_w134 post T10 T47 v0 v1 x1 x2 x4 x5 x6 x7 S) {H : Heap} {locs : List Loc} {ls : Array Slot} (hl : lv_has ls 10 [(0, .ref (o 0)), (1, .int x1), (2, .int x2), (4, .int x4), (5, .int x5), (6, .int x6), (7, .int x7)]) (w : mw D dA o A s S H locs) : W p l e rM_linkOf s m args below meth c H locs 0 0 (mQi below args s D dA o A post) (F0 m 134 ls [.int v0, .int v1]) := by
  unfold M_linkOf_w134 at h
  obtain ⟨⟨hx, hb, hml, hown, hts⟩, hr, hlk, hA⟩ := id C
  refine lv_iadd hx hb dX5_linkOf_134 ?_
  refine lv_istore_n (lv' := [(3, .int _), (0, .ref _), (1, .int _), (2, .int _), (4, .int _), (5, .int _), (6, .int _), (7, .int _)]) hx hb dX5_linkOf_135 rfl hl (by decide) rfl (fun ls hl => ?_)
  exact M_linkOf_a136 C hT10 hT47 h (lv_sub hl [1, 2, 3, 0, 4, 5, 6, 7] rfl) w
def M_linkOf_w129 (post : Int32 → MS → Prop) (T10 : Int32 → Int32 → Int32 → Int32 → Int32 → MS → Prop) (T47 : Int32 → Int32 → Int32 → Int32 → Int32 → Int32 → Int32 → MS → Prop) (v0 : Int32) (x1 : Int32) (x2 : Int32) (x4 : Int32) (x5 : Int32) (x6 : Int32) (x7 : Int32) (S : MS) : Prop :=
  M_linkOf_w134 post T10 T47 (1 : Int32) v0 x1 x2 x4 x5 x6 x7 S
set_option maxHeartbeats 4000000 in
set_option maxRecDepth 100000 in
theorem M_linkOf_a129 {p : Program} {l : Launch} {e : Env} {s : State} {m : MethodId} {args : Array Value} {below : List Frame} {meth : Method} {c : Code} {D : va_G} {dA : Nat → ClassId} {o : Nat → Nat} {A : Nat → Prop} {post : Int32 → MS → Prop} {T10 : Int32 → Int32 → Int32 → Int32 → Int32 → MS → Prop} {T47 : Int32 → Int32 → Int32 → Int32 → Int32 → Int32 → Int32 → MS → Prop} (C : mC p m c cX5_linkOf 10 s args meth (Option.some Jvm.ClassFile.FieldType.int) A) (hT10 : ∀ (x1 : Int32) (x2 : Int32) (x3 : Int32) (x4 : Int32) (x5 : Int32) (S : MS), T10 x1 x2 x3 x4 x5 S → ∀ (H : Heap) (locs : List Loc) (ls : Array Slot), lv_has ls 10 [(0, .ref (o 0)), (1, .int x1), (2, .int x2), (3, .int x3), (4, .int x4), (5, .int x5)] → mw D dA o A s S H locs → W p l e rM_linkOf s m args below meth c H locs 0 0 (mQi below args s D dA o A post) (F0 m 10 ls [])) (hT47 : ∀ (x1 : Int32) (x2 : Int32) (x3 : Int32) (x4 : Int32) (x5 : Int32) (x6 : Int32) (x7 : Int32) (S : MS), T47 x1 x2 x3 x4 x5 x6 x7 S → ∀ (H : Heap) (locs : List Loc) (ls : Array Slot), lv_has ls 10 [(0, .ref (o 0)), (1, .int x1), (2, .int x2), (3, .int x3), (4, .int x4), (5, .int x5), (6, .int x6), (7, .int x7)] → mw D dA o A s S H locs → W p l e rM_linkOf s m args below meth c H locs 0 0 (mQi below args s D dA o A post) (F0 m 47 ls [])) {v0 : Int32} {x1 : Int32} {x2 : Int32} {x4 : Int32} {x5 : Int32} {x6 : Int32} {x7 : Int32} {S : MS} (h : M_linkOf_w129 post T10 T47 v0 x1 x2 x4 x5 x6 x7 S) {H : Heap} {locs : List Loc} {ls : Array Slot} (hl : lv_has ls 10 [(0, .ref (o 0)), (1, .int x1), (2, .int x2), (4, .int x4), (5, .int x5), (6, .int x6), (7, .int x7)]) (w : mw D dA o A s S H locs) : W p l e rM_linkOf s m args below meth c H locs 0 0 (mQi below args s D dA o A post) (F0 m 129 ls [.int v0]) := by
  unfold M_linkOf_w129 at h
  obtain ⟨⟨hx, hb, hml, hown, hts⟩, hr, hlk, hA⟩ := id C
  refine lv_iconst (v := 1) hx hb dX5_linkOf_129 (by decide) ?_
  refine lv_goto (tgt := 134) hx hb dX5_linkOf_130 (by decide) ?_
  exact M_linkOf_a134 C hT10 hT47 h (lv_sub hl [0, 1, 2, 3, 4, 5, 6] rfl) w
def M_linkOf_w94 (post : Int32 → MS → Prop) (T10 : Int32 → Int32 → Int32 → Int32 → Int32 → MS → Prop) (T47 : Int32 → Int32 → Int32 → Int32 → Int32 → Int32 → Int32 → MS → Prop) (v0 : Int32) (v1 : Int32) (x1 : Int32) (x3 : Int32) (x4 : Int32) (x5 : Int32) (x6 : Int32) (x7 : Int32) (S : MS) : Prop :=
  (vp_in (((4 : Int32) * x6) + x7) 12 ∧ (((gI S 1 ((((4 : Int32) * x6) + x7)).toNatClampNeg) = (-1 : Int32) → M_linkOf_w129 post T10 T47 x3 x1 (v1 + v0) x4 x5 x6 x7 S) ∧ (¬ (gI S 1 ((((4 : Int32) * x6) + x7)).toNatClampNeg) = (-1 : Int32) → (vp_in (((4 : Int32) * x6) + x7) 12 ∧ (((gI S 1 ((((4 : Int32) * x6) + x7)).toNatClampNeg) ≤ (((4 : Int32) * x6) + x7) → M_linkOf_w134 post T10 T47 (0 : Int32) x3 x1 (v1 + v0) x4 x5 x6 x7 S) ∧ (¬ (gI S 1 ((((4 : Int32) * x6) + x7)).toNatClampNeg) ≤ (((4 : Int32) * x6) + x7) → M_linkOf_w129 post T10 T47 x3 x1 (v1 + v0) x4 x5 x6 x7 S))))))
set_option maxHeartbeats 4000000 in
set_option maxRecDepth 100000 in
theorem M_linkOf_a94 {p : Program} {l : Launch} {e : Env} {s : State} {m : MethodId} {args : Array Value} {below : List Frame} {meth : Method} {c : Code} {D : va_G} {dA : Nat → ClassId} {o : Nat → Nat} {A : Nat → Prop} {post : Int32 → MS → Prop} {T10 : Int32 → Int32 → Int32 → Int32 → Int32 → MS → Prop} {T47 : Int32 → Int32 → Int32 → Int32 → Int32 → Int32 → Int32 → MS → Prop} (C : mC p m c cX5_linkOf 10 s args meth (Option.some Jvm.ClassFile.FieldType.int) A) (hT10 : ∀ (x1 : Int32) (x2 : Int32) (x3 : Int32) (x4 : Int32) (x5 : Int32) (S : MS), T10 x1 x2 x3 x4 x5 S → ∀ (H : Heap) (locs : List Loc) (ls : Array Slot), lv_has ls 10 [(0, .ref (o 0)), (1, .int x1), (2, .int x2), (3, .int x3), (4, .int x4), (5, .int x5)] → mw D dA o A s S H locs → W p l e rM_linkOf s m args below meth c H locs 0 0 (mQi below args s D dA o A post) (F0 m 10 ls [])) (hT47 : ∀ (x1 : Int32) (x2 : Int32) (x3 : Int32) (x4 : Int32) (x5 : Int32) (x6 : Int32) (x7 : Int32) (S : MS), T47 x1 x2 x3 x4 x5 x6 x7 S → ∀ (H : Heap) (locs : List Loc) (ls : Array Slot), lv_has ls 10 [(0, .ref (o 0)), (1, .int x1), (2, .int x2), (3, .int x3), (4, .int x4), (5, .int x5), (6, .int x6), (7, .int x7)] → mw D dA o A s S H locs → W p l e rM_linkOf s m args below meth c H locs 0 0 (mQi below args s D dA o A post) (F0 m 47 ls [])) {v0 : Int32} {v1 : Int32} {x1 : Int32} {x3 : Int32} {x4 : Int32} {x5 : Int32} {x6 : Int32} {x7 : Int32} {S : MS} (h : M_linkOf_w94 post T10 T47 v0 v1 x1 x3 x4 x5 x6 x7 S) {H : Heap} {locs : List Loc} {ls : Array Slot} (hl : lv_has ls 10 [(0, .ref (o 0)), (1, .int x1), (3, .int x3), (4, .int x4), (5, .int x5), (6, .int x6), (7, .int x7)]) (w : mw D dA o A s S H locs) : W p l e rM_linkOf s m args below meth c H locs 0 0 (mQi below args s D dA o A post) (F0 m 94 ls [.int v0, .int v1]) := by
  unfold M_linkOf_w94 at h
  obtain ⟨⟨hx, hb, hml, hown, hts⟩, hr, hlk, hA⟩ := id C
  refine lv_iadd hx hb dX5_linkOf_94 ?_
  refine lv_istore_n (lv' := [(2, .int _), (0, .ref _), (1, .int _), (3, .int _), (4, .int _), (5, .int _), (6, .int _), (7, .int _)]) hx hb dX5_linkOf_95 rfl hl (by decide) rfl (fun ls hl => ?_)
  refine lv_iconst (v := 4) hx hb dX5_linkOf_96 (by decide) ?_
  refine lv_iload hx hb dX5_linkOf_97 (lv_at hl 6 rfl) ?_
  refine lv_imul hx hb dX5_linkOf_99 ?_
  refine lv_iload hx hb dX5_linkOf_100 (lv_at hl 7 rfl) ?_
  refine lv_iadd hx hb dX5_linkOf_102 ?_
  refine lv_istore (lv' := [(9, .int _), (2, .int _), (0, .ref _), (1, .int _), (3, .int _), (4, .int _), (5, .int _), (6, .int _), (7, .int _)]) hx hb dX5_linkOf_103 hl (by decide) rfl (fun ls hl => ?_)
  refine lv_iload_n hx hb dX5_linkOf_105 rfl (lv_at hl 4 rfl) ?_
  refine lv_aload_n hx hb dX5_linkOf_106 rfl (lv_at hl 2 rfl) ?_
  refine mr_get C w 1 (by decide) q578 rfl rfl dX5_linkOf_107 ?_
  refine lv_iload hx hb dX5_linkOf_110 (lv_at hl 0 rfl) ?_
  obtain ⟨hi, h⟩ := h
  refine mr_iald C w 1 0 rfl rfl hi dX5_linkOf_112 ?_
  refine lv_iconst (v := -1) hx hb dX5_linkOf_113 (by decide) ?_
  obtain ⟨h1, h2⟩ := h
  refine lv_icmp_eq (tgt := 129) hx hb dX5_linkOf_114 (by decide) (fun c1 => ?_) (fun c1 => ?_)
  · have h := h1 c1
    exact M_linkOf_a129 C hT10 hT47 h (lv_sub hl [2, 3, 1, 5, 6, 7, 8] rfl) w
  · have h := h2 c1
    refine lv_iload hx hb dX5_linkOf_117 (lv_at hl 0 rfl) ?_
    refine lv_aload_n hx hb dX5_linkOf_119 rfl (lv_at hl 2 rfl) ?_
    refine mr_get C w 1 (by decide) q578 rfl rfl dX5_linkOf_120 ?_
    refine lv_iload hx hb dX5_linkOf_123 (lv_at hl 0 rfl) ?_
    obtain ⟨hi, h⟩ := h
    refine mr_iald C w 1 0 rfl rfl hi dX5_linkOf_125 ?_
    obtain ⟨h1, h2⟩ := h
    refine lv_icmp_ge (tgt := 133) hx hb dX5_linkOf_126 (by decide) (fun c1 => ?_) (fun c1 => ?_)
    · have h := h1 c1
      refine lv_iconst (v := 0) hx hb dX5_linkOf_133 (by decide) ?_
      exact M_linkOf_a134 C hT10 hT47 h (lv_sub hl [2, 3, 1, 5, 6, 7, 8] rfl) w
    · have h := h2 c1
      exact M_linkOf_a129 C hT10 hT47 h (lv_sub hl [2, 3, 1, 5, 6, 7, 8] rfl) w
def M_linkOf_w47 (post : Int32 → MS → Prop) (T10 : Int32 → Int32 → Int32 → Int32 → Int32 → MS → Prop) (T47 : Int32 → Int32 → Int32 → Int32 → Int32 → Int32 → Int32 → MS → Prop) (x1 : Int32) (x2 : Int32) (x3 : Int32) (x4 : Int32) (x5 : Int32) (x6 : Int32) (x7 : Int32) (S : MS) : Prop :=
  (((4 : Int32) ≤ x7 → M_linkOf_w142 post T10 T47 x1 x2 x3 x4 x5 S) ∧ (¬ (4 : Int32) ≤ x7 → ((x7 = (x5 - x5 / (4 : Int32) * (4 : Int32)) → M_linkOf_w136 post T10 T47 x1 x2 x3 x4 x5 x6 x7 S) ∧ (¬ x7 = (x5 - x5 / (4 : Int32) * (4 : Int32)) → M_endOf x6 (x5 - x5 / (4 : Int32) * (4 : Int32)) x7 S (fun (r1 : Int32) (S1 : MS) => (vp_in r1 36 ∧ ((¬ (gI S1 6 (r1).toNatClampNeg) = r1 → M_linkOf_w94 post T10 T47 (0 : Int32) x2 x1 x3 x4 x5 x6 x7 S1) ∧ ((gI S1 6 (r1).toNatClampNeg) = r1 → M_linkOf_w94 post T10 T47 (1 : Int32) x2 x1 x3 x4 x5 x6 x7 S1))))))))
set_option maxHeartbeats 4000000 in
set_option maxRecDepth 100000 in
theorem M_linkOf_a47 {p : Program} {l : Launch} {e : Env} {s : State} {m : MethodId} {args : Array Value} {below : List Frame} {meth : Method} {c : Code} {D : va_G} {dA : Nat → ClassId} {o : Nat → Nat} {A : Nat → Prop} {post : Int32 → MS → Prop} {T10 : Int32 → Int32 → Int32 → Int32 → Int32 → MS → Prop} {T47 : Int32 → Int32 → Int32 → Int32 → Int32 → Int32 → Int32 → MS → Prop} (C : mC p m c cX5_linkOf 10 s args meth (Option.some Jvm.ClassFile.FieldType.int) A) (hT10 : ∀ (x1 : Int32) (x2 : Int32) (x3 : Int32) (x4 : Int32) (x5 : Int32) (S : MS), T10 x1 x2 x3 x4 x5 S → ∀ (H : Heap) (locs : List Loc) (ls : Array Slot), lv_has ls 10 [(0, .ref (o 0)), (1, .int x1), (2, .int x2), (3, .int x3), (4, .int x4), (5, .int x5)] → mw D dA o A s S H locs → W p l e rM_linkOf s m args below meth c H locs 0 0 (mQi below args s D dA o A post) (F0 m 10 ls [])) (hT47 : ∀ (x1 : Int32) (x2 : Int32) (x3 : Int32) (x4 : Int32) (x5 : Int32) (x6 : Int32) (x7 : Int32) (S : MS), T47 x1 x2 x3 x4 x5 x6 x7 S → ∀ (H : Heap) (locs : List Loc) (ls : Array Slot), lv_has ls 10 [(0, .ref (o 0)), (1, .int x1), (2, .int x2), (3, .int x3), (4, .int x4), (5, .int x5), (6, .int x6), (7, .int x7)] → mw D dA o A s S H locs → W p l e rM_linkOf s m args below meth c H locs 0 0 (mQi below args s D dA o A post) (F0 m 47 ls [])) {x1 : Int32} {x2 : Int32} {x3 : Int32} {x4 : Int32} {x5 : Int32} {x6 : Int32} {x7 : Int32} {S : MS} (h : M_linkOf_w47 post T10 T47 x1 x2 x3 x4 x5 x6 x7 S) {H : Heap} {locs : List Loc} {ls : Array Slot} (hl : lv_has ls 10 [(0, .ref (o 0)), (1, .int x1), (2, .int x2), (3, .int x3), (4, .int x4), (5, .int x5), (6, .int x6), (7, .int x7)]) (w : mw D dA o A s S H locs) : W p l e rM_linkOf s m args below meth c H locs 0 0 (mQi below args s D dA o A post) (F0 m 47 ls []) := by
  unfold M_linkOf_w47 at h
  obtain ⟨⟨hx, hb, hml, hown, hts⟩, hr, hlk, hA⟩ := id C
  refine lv_iload hx hb dX5_linkOf_47 (lv_at hl 7 rfl) ?_
  refine lv_iconst (v := 4) hx hb dX5_linkOf_49 (by decide) ?_
  obtain ⟨h1, h2⟩ := h
  refine lv_icmp_ge (tgt := 142) hx hb dX5_linkOf_50 (by decide) (fun c1 => ?_) (fun c1 => ?_)
  · have h := h1 c1
    exact M_linkOf_a142 C hT10 hT47 h (lv_sub hl [0, 1, 2, 3, 4, 5] rfl) w
  · have h := h2 c1
    refine lv_iload hx hb dX5_linkOf_53 (lv_at hl 7 rfl) ?_
    refine lv_iload hx hb dX5_linkOf_55 (lv_at hl 5 rfl) ?_
    refine lv_iconst (v := 4) hx hb dX5_linkOf_57 (by decide) ?_
    refine lv_irem hx hb dX5_linkOf_58 (by decide) ?_
    obtain ⟨h1, h2⟩ := h
    refine lv_icmp_eq (tgt := 136) hx hb dX5_linkOf_59 (by decide) (fun c1 => ?_) (fun c1 => ?_)
    · have h := h1 c1
      exact M_linkOf_a136 C hT10 hT47 h (lv_sub hl [0, 1, 2, 3, 4, 5, 6, 7] rfl) w
    · have h := h2 c1
      refine lv_aload_n hx hb dX5_linkOf_62 rfl (lv_at hl 0 rfl) ?_
      refine lv_iload hx hb dX5_linkOf_63 (lv_at hl 6 rfl) ?_
      refine lv_iload hx hb dX5_linkOf_65 (lv_at hl 5 rfl) ?_
      refine lv_iconst (v := 4) hx hb dX5_linkOf_67 (by decide) ?_
      refine lv_irem hx hb dX5_linkOf_68 (by decide) ?_
      refine lv_iload hx hb dX5_linkOf_69 (lv_at hl 7 rfl) ?_
      refine mr_callVI (rest := []) C w h (lw_V q710 q712 qs40 q87 q713) M_endOf_d rfl rfl ⟨Nat.le_of_ble_eq_true rfl, Nat.le_of_ble_eq_true rfl⟩ rfl hl.1 rfl (Nat.le_of_ble_eq_true rfl) ⟨Nat.zero_le _, Nat.zero_le _⟩ dX5_linkOf_71 (fun r1 S1 H locs h w => ?_)
      refine lv_istore (lv' := [(8, .int _), (0, .ref _), (1, .int _), (2, .int _), (3, .int _), (4, .int _), (5, .int _), (6, .int _), (7, .int _)]) hx hb dX5_linkOf_74 hl (by decide) rfl (fun ls hl => ?_)
      refine lv_iload_n hx hb dX5_linkOf_76 rfl (lv_at hl 3 rfl) ?_
      refine lv_aload_n hx hb dX5_linkOf_77 rfl (lv_at hl 1 rfl) ?_
      refine mr_get C w 6 (by decide) q583 rfl rfl dX5_linkOf_78 ?_
      refine lv_iload hx hb dX5_linkOf_81 (lv_at hl 0 rfl) ?_
      obtain ⟨hi, h⟩ := h
      refine mr_iald C w 6 5 rfl rfl hi dX5_linkOf_83 ?_
      refine lv_iload hx hb dX5_linkOf_84 (lv_at hl 0 rfl) ?_
      obtain ⟨h1, h2⟩ := h
      refine lv_icmp_ne (tgt := 93) hx hb dX5_linkOf_86 (by decide) (fun c1 => ?_) (fun c1 => ?_)
      · have h := h1 c1
        refine lv_iconst (v := 0) hx hb dX5_linkOf_93 (by decide) ?_
        exact M_linkOf_a94 C hT10 hT47 h (lv_sub hl [1, 2, 4, 5, 6, 7, 8] rfl) w
      · have h := h2 c1
        refine lv_iconst (v := 1) hx hb dX5_linkOf_89 (by decide) ?_
        refine lv_goto (tgt := 94) hx hb dX5_linkOf_90 (by decide) ?_
        exact M_linkOf_a94 C hT10 hT47 h (lv_sub hl [1, 2, 4, 5, 6, 7, 8] rfl) w
def M_linkOf_w10 (post : Int32 → MS → Prop) (T10 : Int32 → Int32 → Int32 → Int32 → Int32 → MS → Prop) (T47 : Int32 → Int32 → Int32 → Int32 → Int32 → Int32 → Int32 → MS → Prop) (x1 : Int32) (x2 : Int32) (x3 : Int32) (x4 : Int32) (x5 : Int32) (S : MS) : Prop :=
  ((((4 : Int32) * (gF S 0)) ≤ x5 → post ((x2 - x3) + x4) S) ∧ (¬ ((4 : Int32) * (gF S 0)) ≤ x5 → (vp_in x5 12 ∧ (((gI S 7 (x5).toNatClampNeg) = x1 → T47 x1 x2 x3 (x4 + (1 : Int32)) x5 (x5 / (4 : Int32)) (0 : Int32) S) ∧ (¬ (gI S 7 (x5).toNatClampNeg) = x1 → M_linkOf_w142 post T10 T47 x1 x2 x3 x4 x5 S)))))
set_option maxHeartbeats 4000000 in
set_option maxRecDepth 100000 in
theorem M_linkOf_a10 {p : Program} {l : Launch} {e : Env} {s : State} {m : MethodId} {args : Array Value} {below : List Frame} {meth : Method} {c : Code} {D : va_G} {dA : Nat → ClassId} {o : Nat → Nat} {A : Nat → Prop} {post : Int32 → MS → Prop} {T10 : Int32 → Int32 → Int32 → Int32 → Int32 → MS → Prop} {T47 : Int32 → Int32 → Int32 → Int32 → Int32 → Int32 → Int32 → MS → Prop} (C : mC p m c cX5_linkOf 10 s args meth (Option.some Jvm.ClassFile.FieldType.int) A) (hT10 : ∀ (x1 : Int32) (x2 : Int32) (x3 : Int32) (x4 : Int32) (x5 : Int32) (S : MS), T10 x1 x2 x3 x4 x5 S → ∀ (H : Heap) (locs : List Loc) (ls : Array Slot), lv_has ls 10 [(0, .ref (o 0)), (1, .int x1), (2, .int x2), (3, .int x3), (4, .int x4), (5, .int x5)] → mw D dA o A s S H locs → W p l e rM_linkOf s m args below meth c H locs 0 0 (mQi below args s D dA o A post) (F0 m 10 ls [])) (hT47 : ∀ (x1 : Int32) (x2 : Int32) (x3 : Int32) (x4 : Int32) (x5 : Int32) (x6 : Int32) (x7 : Int32) (S : MS), T47 x1 x2 x3 x4 x5 x6 x7 S → ∀ (H : Heap) (locs : List Loc) (ls : Array Slot), lv_has ls 10 [(0, .ref (o 0)), (1, .int x1), (2, .int x2), (3, .int x3), (4, .int x4), (5, .int x5), (6, .int x6), (7, .int x7)] → mw D dA o A s S H locs → W p l e rM_linkOf s m args below meth c H locs 0 0 (mQi below args s D dA o A post) (F0 m 47 ls [])) {x1 : Int32} {x2 : Int32} {x3 : Int32} {x4 : Int32} {x5 : Int32} {S : MS} (h : M_linkOf_w10 post T10 T47 x1 x2 x3 x4 x5 S) {H : Heap} {locs : List Loc} {ls : Array Slot} (hl : lv_has ls 10 [(0, .ref (o 0)), (1, .int x1), (2, .int x2), (3, .int x3), (4, .int x4), (5, .int x5)]) (w : mw D dA o A s S H locs) : W p l e rM_linkOf s m args below meth c H locs 0 0 (mQi below args s D dA o A post) (F0 m 10 ls []) := by
  unfold M_linkOf_w10 at h
  obtain ⟨⟨hx, hb, hml, hown, hts⟩, hr, hlk, hA⟩ := id C
  refine lv_iload hx hb dX5_linkOf_10 (lv_at hl 5 rfl) ?_
  refine lv_iconst (v := 4) hx hb dX5_linkOf_12 (by decide) ?_
  refine lv_aload_n hx hb dX5_linkOf_13 rfl (lv_at hl 0 rfl) ?_
  refine mr_get C w 0 (by decide) q577 rfl rfl dX5_linkOf_14 ?_
  refine lv_imul hx hb dX5_linkOf_17 ?_
  obtain ⟨h1, h2⟩ := h
  refine lv_icmp_ge (tgt := 148) hx hb dX5_linkOf_18 (by decide) (fun c1 => ?_) (fun c1 => ?_)
  · have h := h1 c1
    refine lv_iload_n hx hb dX5_linkOf_148 rfl (lv_at hl 2 rfl) ?_
    refine lv_iload_n hx hb dX5_linkOf_149 rfl (lv_at hl 3 rfl) ?_
    refine lv_isub hx hb dX5_linkOf_150 ?_
    refine lv_iload hx hb dX5_linkOf_151 (lv_at hl 4 rfl) ?_
    refine lv_iadd hx hb dX5_linkOf_153 ?_
    exact mr_iret C w h dX5_linkOf_154
  · have h := h2 c1
    refine lv_aload_n hx hb dX5_linkOf_21 rfl (lv_at hl 0 rfl) ?_
    refine mr_get C w 7 (by decide) q584 rfl rfl dX5_linkOf_22 ?_
    refine lv_iload hx hb dX5_linkOf_25 (lv_at hl 5 rfl) ?_
    obtain ⟨hi, h⟩ := h
    refine mr_iald C w 7 6 rfl rfl hi dX5_linkOf_27 ?_
    refine lv_iload_n hx hb dX5_linkOf_28 rfl (lv_at hl 1 rfl) ?_
    obtain ⟨h1, h2⟩ := h
    refine lv_icmp_eq (tgt := 35) hx hb dX5_linkOf_29 (by decide) (fun c1 => ?_) (fun c1 => ?_)
    · have h := h1 c1
      refine lv_iinc (v := _ + (1 : Int32)) (lv' := [(4, .int _), (0, .ref _), (1, .int _), (2, .int _), (3, .int _), (5, .int _)]) hx hb dX5_linkOf_35 hl (k := 4) rfl rfl (by decide) rfl (fun ls hl => ?_)
      refine lv_iload hx hb dX5_linkOf_38 (lv_at hl 5 rfl) ?_
      refine lv_iconst (v := 4) hx hb dX5_linkOf_40 (by decide) ?_
      refine lv_idiv hx hb dX5_linkOf_41 (by decide) ?_
      refine lv_istore (lv' := [(6, .int _), (4, .int _), (0, .ref _), (1, .int _), (2, .int _), (3, .int _), (5, .int _)]) hx hb dX5_linkOf_42 hl (by decide) rfl (fun ls hl => ?_)
      refine lv_iconst (v := 0) hx hb dX5_linkOf_44 (by decide) ?_
      refine lv_istore (lv' := [(7, .int _), (6, .int _), (4, .int _), (0, .ref _), (1, .int _), (2, .int _), (3, .int _), (5, .int _)]) hx hb dX5_linkOf_45 hl (by decide) rfl (fun ls hl => ?_)
      exact hT47 _ _ _ _ _ _ _ _ h _ _ _ (lv_sub hl [3, 4, 5, 6, 2, 7, 1, 0] rfl) w
    · have h := h2 c1
      refine lv_goto (tgt := 142) hx hb dX5_linkOf_32 (by decide) ?_
      exact M_linkOf_a142 C hT10 hT47 h (lv_sub hl [0, 1, 2, 3, 4, 5] rfl) w
def M_linkOf_w0 (post : Int32 → MS → Prop) (T10 : Int32 → Int32 → Int32 → Int32 → Int32 → MS → Prop) (T47 : Int32 → Int32 → Int32 → Int32 → Int32 → Int32 → Int32 → MS → Prop) (x1 : Int32) (S : MS) : Prop :=
  T10 x1 (0 : Int32) (0 : Int32) (0 : Int32) (0 : Int32) S
set_option maxHeartbeats 4000000 in
set_option maxRecDepth 100000 in
theorem M_linkOf_a0 {p : Program} {l : Launch} {e : Env} {s : State} {m : MethodId} {args : Array Value} {below : List Frame} {meth : Method} {c : Code} {D : va_G} {dA : Nat → ClassId} {o : Nat → Nat} {A : Nat → Prop} {post : Int32 → MS → Prop} {T10 : Int32 → Int32 → Int32 → Int32 → Int32 → MS → Prop} {T47 : Int32 → Int32 → Int32 → Int32 → Int32 → Int32 → Int32 → MS → Prop} (C : mC p m c cX5_linkOf 10 s args meth (Option.some Jvm.ClassFile.FieldType.int) A) (hT10 : ∀ (x1 : Int32) (x2 : Int32) (x3 : Int32) (x4 : Int32) (x5 : Int32) (S : MS), T10 x1 x2 x3 x4 x5 S → ∀ (H : Heap) (locs : List Loc) (ls : Array Slot), lv_has ls 10 [(0, .ref (o 0)), (1, .int x1), (2, .int x2), (3, .int x3), (4, .int x4), (5, .int x5)] → mw D dA o A s S H locs → W p l e rM_linkOf s m args below meth c H locs 0 0 (mQi below args s D dA o A post) (F0 m 10 ls [])) (hT47 : ∀ (x1 : Int32) (x2 : Int32) (x3 : Int32) (x4 : Int32) (x5 : Int32) (x6 : Int32) (x7 : Int32) (S : MS), T47 x1 x2 x3 x4 x5 x6 x7 S → ∀ (H : Heap) (locs : List Loc) (ls : Array Slot), lv_has ls 10 [(0, .ref (o 0)), (1, .int x1), (2, .int x2), (3, .int x3), (4, .int x4), (5, .int x5), (6, .int x6), (7, .int x7)] → mw D dA o A s S H locs → W p l e rM_linkOf s m args below meth c H locs 0 0 (mQi below args s D dA o A post) (F0 m 47 ls [])) {x1 : Int32} {S : MS} (h : M_linkOf_w0 post T10 T47 x1 S) {H : Heap} {locs : List Loc} {ls : Array Slot} (hl : lv_has ls 10 [(0, .ref (o 0)), (1, .int x1)]) (w : mw D dA o A s S H locs) : W p l e rM_linkOf s m args below meth c H locs 0 0 (mQi below args s D dA o A post) (F0 m 0 ls []) := by
  unfold M_linkOf_w0 at h
  obtain ⟨⟨hx, hb, hml, hown, hts⟩, hr, hlk, hA⟩ := id C
  refine lv_iconst (v := 0) hx hb dX5_linkOf_0 (by decide) ?_
  refine lv_istore_n (lv' := [(2, .int _), (0, .ref _), (1, .int _)]) hx hb dX5_linkOf_1 rfl hl (by decide) rfl (fun ls hl => ?_)
  refine lv_iconst (v := 0) hx hb dX5_linkOf_2 (by decide) ?_
  refine lv_istore_n (lv' := [(3, .int _), (2, .int _), (0, .ref _), (1, .int _)]) hx hb dX5_linkOf_3 rfl hl (by decide) rfl (fun ls hl => ?_)
  refine lv_iconst (v := 0) hx hb dX5_linkOf_4 (by decide) ?_
  refine lv_istore (lv' := [(4, .int _), (3, .int _), (2, .int _), (0, .ref _), (1, .int _)]) hx hb dX5_linkOf_5 hl (by decide) rfl (fun ls hl => ?_)
  refine lv_iconst (v := 0) hx hb dX5_linkOf_7 (by decide) ?_
  refine lv_istore (lv' := [(5, .int _), (4, .int _), (3, .int _), (2, .int _), (0, .ref _), (1, .int _)]) hx hb dX5_linkOf_8 hl (by decide) rfl (fun ls hl => ?_)
  exact hT10 _ _ _ _ _ _ h _ _ _ (lv_sub hl [4, 5, 3, 2, 1, 0] rfl) w
def M_linkOf_VC (x1 : Int32) (S : MS) (post : Int32 → MS → Prop) : Prop := ∀ (T10 : Int32 → Int32 → Int32 → Int32 → Int32 → MS → Prop) (T47 : Int32 → Int32 → Int32 → Int32 → Int32 → Int32 → Int32 → MS → Prop), (∀ (x1 : Int32) (x2 : Int32) (x3 : Int32) (x4 : Int32) (x5 : Int32) (S : MS), M_linkOf_w10 post T10 T47 x1 x2 x3 x4 x5 S → T10 x1 x2 x3 x4 x5 S) → (∀ (x1 : Int32) (x2 : Int32) (x3 : Int32) (x4 : Int32) (x5 : Int32) (x6 : Int32) (x7 : Int32) (S : MS), M_linkOf_w47 post T10 T47 x1 x2 x3 x4 x5 x6 x7 S → T47 x1 x2 x3 x4 x5 x6 x7 S) → M_linkOf_w0 post T10 T47 x1 S
theorem M_linkOf_ok {x1 : Int32} {S : MS} {post : Int32 → MS → Prop} (h : M_linkOf_VC x1 S post) : M_linkOf x1 S post := by
  intro l D dA o sz
  refine mr_start (fun A => va_Qi post (mB D dA o A) A) rfl (Nat.le_of_ble_eq_true rfl) (by decide) ?_
  intro p e s m args below meth c ls A C w hl
  have hl : lv_has ls 10 [(0, .ref (o 0)), (1, .int x1)] := hl
  have h := h (fun (x1 : Int32) (x2 : Int32) (x3 : Int32) (x4 : Int32) (x5 : Int32) S => ∀ (H : Heap) (locs : List Loc) (ls : Array Slot), lv_has ls 10 [(0, .ref (o 0)), (1, .int x1), (2, .int x2), (3, .int x3), (4, .int x4), (5, .int x5)] → mw D dA o A s S H locs → W p l e rM_linkOf s m args below meth c H locs 0 0 (mQi below args s D dA o A post) (F0 m 10 ls [])) (fun (x1 : Int32) (x2 : Int32) (x3 : Int32) (x4 : Int32) (x5 : Int32) (x6 : Int32) (x7 : Int32) S => ∀ (H : Heap) (locs : List Loc) (ls : Array Slot), lv_has ls 10 [(0, .ref (o 0)), (1, .int x1), (2, .int x2), (3, .int x3), (4, .int x4), (5, .int x5), (6, .int x6), (7, .int x7)] → mw D dA o A s S H locs → W p l e rM_linkOf s m args below meth c H locs 0 0 (mQi below args s D dA o A post) (F0 m 47 ls [])) (fun _ _ _ _ _ S h H locs ls hl w => M_linkOf_a10 C (fun _ _ _ _ _ _ h => h) (fun _ _ _ _ _ _ _ _ h => h) h hl w) (fun _ _ _ _ _ _ _ S h H locs ls hl w => M_linkOf_a47 C (fun _ _ _ _ _ _ h => h) (fun _ _ _ _ _ _ _ _ h => h) h hl w)
  exact M_linkOf_a0 C (fun _ _ _ _ _ _ h => h) (fun _ _ _ _ _ _ _ _ h => h) h (lv_sub hl [0, 1] rfl) w
