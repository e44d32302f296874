/-! label()V -/
def M_label_w106 (post : MS → Prop) (T2 : Int32 → MS → Prop) (T23 : Int32 → MS → Prop) (T44 : Int32 → MS → Prop) (T67 : MS → Prop) (T81 : Int32 → MS → Prop) (x1 : Int32) (S : MS) : Prop :=
  T81 (x1 + (1 : Int32)) S
set_option maxHeartbeats 4000000 in
set_option maxRecDepth 100000 in
theorem M_label_a106 {p : Program} {l : Launch} {e : Env} {s : State} {m : MethodId} {args : Array Value} {below : List Frame} {meth : Method} {c : Code} {D : va_G} {dA : Nat → ClassId} {o : Nat → Nat} {A : Nat → Prop} {post : MS → Prop} {T2 : Int32 → MS → Prop} {T23 : Int32 → MS → Prop} {T44 : Int32 → MS → Prop} {T67 : MS → Prop} {T81 : Int32 → MS → Prop} (C : mC p m c cX5_label 2 s args meth (Option.none : Option Jvm.ClassFile.FieldType) A) (hT2 : ∀ (x1 : Int32) (S : MS), T2 x1 S → ∀ (H : Heap) (locs : List Loc) (ls : Array Slot), lv_has ls 2 [(0, .ref (o 0)), (1, .int x1)] → mw D dA o A s S H locs → W p l e rM_label s m args below meth c H locs 0 0 (mQv below args s D dA o A post) (F0 m 2 ls [])) (hT23 : ∀ (x1 : Int32) (S : MS), T23 x1 S → ∀ (H : Heap) (locs : List Loc) (ls : Array Slot), lv_has ls 2 [(0, .ref (o 0)), (1, .int x1)] → mw D dA o A s S H locs → W p l e rM_label s m args below meth c H locs 0 0 (mQv below args s D dA o A post) (F0 m 23 ls [])) (hT44 : ∀ (x1 : Int32) (S : MS), T44 x1 S → ∀ (H : Heap) (locs : List Loc) (ls : Array Slot), lv_has ls 2 [(0, .ref (o 0)), (1, .int x1)] → mw D dA o A s S H locs → W p l e rM_label s m args below meth c H locs 0 0 (mQv below args s D dA o A post) (F0 m 44 ls [])) (hT67 : ∀ (S : MS), T67 S → ∀ (H : Heap) (locs : List Loc) (ls : Array Slot), lv_has ls 2 [(0, .ref (o 0))] → mw D dA o A s S H locs → W p l e rM_label s m args below meth c H locs 0 0 (mQv below args s D dA o A post) (F0 m 67 ls [])) (hT81 : ∀ (x1 : Int32) (S : MS), T81 x1 S → ∀ (H : Heap) (locs : List Loc) (ls : Array Slot), lv_has ls 2 [(0, .ref (o 0)), (1, .int x1)] → mw D dA o A s S H locs → W p l e rM_label s m args below meth c H locs 0 0 (mQv below args s D dA o A post) (F0 m 81 ls [])) {x1 : Int32} {S : MS} (h : M_label_w106 post T2 T23 T44 T67 T81 x1 S) {H : Heap} {locs : List Loc} {ls : Array Slot} (hl : lv_has ls 2 [(0, .ref (o 0)), (1, .int x1)]) (w : mw D dA o A s S H locs) : W p l e rM_label s m args below meth c H locs 0 0 (mQv below args s D dA o A post) (F0 m 106 ls []) := by
  unfold M_label_w106 at h
  obtain ⟨⟨hx, hb, hml, hown, hts⟩, hr, hlk, hA⟩ := id C
  refine lv_iinc (v := _ + (1 : Int32)) (lv' := [(1, .int _), (0, .ref _)]) hx hb dX5_label_106 hl (k := 1) rfl rfl (by decide) rfl (fun ls hl => ?_)
  refine lv_goto (tgt := 81) hx hb dX5_label_109 (by decide) ?_
  exact hT81 _ _ h _ _ _ (lv_sub hl [1, 0] rfl) w
def M_label_w81 (post : MS → Prop) (T2 : Int32 → MS → Prop) (T23 : Int32 → MS → Prop) (T44 : Int32 → MS → Prop) (T67 : MS → Prop) (T81 : Int32 → MS → Prop) (x1 : Int32) (S : MS) : Prop :=
  ((((4 : Int32) * (gF S 0)) ≤ x1 → T67 S) ∧ (¬ ((4 : Int32) * (gF S 0)) ≤ x1 → (vp_in x1 12 ∧ (((gI S 1 (x1).toNatClampNeg) = (-1 : Int32) → M_label_w106 post T2 T23 T44 T67 T81 x1 S) ∧ (¬ (gI S 1 (x1).toNatClampNeg) = (-1 : Int32) → M_joinSide x1 S (fun (S1 : MS) => M_label_w106 post T2 T23 T44 T67 T81 x1 S1))))))
set_option maxHeartbeats 4000000 in
set_option maxRecDepth 100000 in
theorem M_label_a81 {p : Program} {l : Launch} {e : Env} {s : State} {m : MethodId} {args : Array Value} {below : List Frame} {meth : Method} {c : Code} {D : va_G} {dA : Nat → ClassId} {o : Nat → Nat} {A : Nat → Prop} {post : MS → Prop} {T2 : Int32 → MS → Prop} {T23 : Int32 → MS → Prop} {T44 : Int32 → MS → Prop} {T67 : MS → Prop} {T81 : Int32 → MS → Prop} (C : mC p m c cX5_label 2 s args meth (Option.none : Option Jvm.ClassFile.FieldType) A) (hT2 : ∀ (x1 : Int32) (S : MS), T2 x1 S → ∀ (H : Heap) (locs : List Loc) (ls : Array Slot), lv_has ls 2 [(0, .ref (o 0)), (1, .int x1)] → mw D dA o A s S H locs → W p l e rM_label s m args below meth c H locs 0 0 (mQv below args s D dA o A post) (F0 m 2 ls [])) (hT23 : ∀ (x1 : Int32) (S : MS), T23 x1 S → ∀ (H : Heap) (locs : List Loc) (ls : Array Slot), lv_has ls 2 [(0, .ref (o 0)), (1, .int x1)] → mw D dA o A s S H locs → W p l e rM_label s m args below meth c H locs 0 0 (mQv below args s D dA o A post) (F0 m 23 ls [])) (hT44 : ∀ (x1 : Int32) (S : MS), T44 x1 S → ∀ (H : Heap) (locs : List Loc) (ls : Array Slot), lv_has ls 2 [(0, .ref (o 0)), (1, .int x1)] → mw D dA o A s S H locs → W p l e rM_label s m args below meth c H locs 0 0 (mQv below args s D dA o A post) (F0 m 44 ls [])) (hT67 : ∀ (S : MS), T67 S → ∀ (H : Heap) (locs : List Loc) (ls : Array Slot), lv_has ls 2 [(0, .ref (o 0))] → mw D dA o A s S H locs → W p l e rM_label s m args below meth c H locs 0 0 (mQv below args s D dA o A post) (F0 m 67 ls [])) (hT81 : ∀ (x1 : Int32) (S : MS), T81 x1 S → ∀ (H : Heap) (locs : List Loc) (ls : Array Slot), lv_has ls 2 [(0, .ref (o 0)), (1, .int x1)] → mw D dA o A s S H locs → W p l e rM_label s m args below meth c H locs 0 0 (mQv below args s D dA o A post) (F0 m 81 ls [])) {x1 : Int32} {S : MS} (h : M_label_w81 post T2 T23 T44 T67 T81 x1 S) {H : Heap} {locs : List Loc} {ls : Array Slot} (hl : lv_has ls 2 [(0, .ref (o 0)), (1, .int x1)]) (w : mw D dA o A s S H locs) : W p l e rM_label s m args below meth c H locs 0 0 (mQv below args s D dA o A post) (F0 m 81 ls []) := by
  unfold M_label_w81 at h
  obtain ⟨⟨hx, hb, hml, hown, hts⟩, hr, hlk, hA⟩ := id C
  refine lv_iload_n hx hb dX5_label_81 rfl (lv_at hl 1 rfl) ?_
  refine lv_iconst (v := 4) hx hb dX5_label_82 (by decide) ?_
  refine lv_aload_n hx hb dX5_label_83 rfl (lv_at hl 0 rfl) ?_
  refine mr_get C w 0 (by decide) q577 rfl rfl dX5_label_84 ?_
  refine lv_imul hx hb dX5_label_87 ?_
  obtain ⟨h1, h2⟩ := h
  refine lv_icmp_ge (tgt := 112) hx hb dX5_label_88 (by decide) (fun c1 => ?_) (fun c1 => ?_)
  · have h := h1 c1
    refine lv_goto (tgt := 67) hx hb dX5_label_112 (by decide) ?_
    exact hT67 _ h _ _ _ (lv_sub hl [0] rfl) w
  · have h := h2 c1
    refine lv_aload_n hx hb dX5_label_91 rfl (lv_at hl 0 rfl) ?_
    refine mr_get C w 1 (by decide) q578 rfl rfl dX5_label_92 ?_
    refine lv_iload_n hx hb dX5_label_95 rfl (lv_at hl 1 rfl) ?_
    obtain ⟨hi, h⟩ := h
    refine mr_iald C w 1 0 rfl rfl hi dX5_label_96 ?_
    refine lv_iconst (v := -1) hx hb dX5_label_97 (by decide) ?_
    obtain ⟨h1, h2⟩ := h
    refine lv_icmp_eq (tgt := 106) hx hb dX5_label_98 (by decide) (fun c1 => ?_) (fun c1 => ?_)
    · have h := h1 c1
      exact M_label_a106 C hT2 hT23 hT44 hT67 hT81 h (lv_sub hl [0, 1] rfl) w
    · have h := h2 c1
      refine lv_aload_n hx hb dX5_label_101 rfl (lv_at hl 0 rfl) ?_
      refine lv_iload_n hx hb dX5_label_102 rfl (lv_at hl 1 rfl) ?_
      refine mr_callVV (rest := []) C w h (lw_V q699 q701 qs38 q87 q702) M_joinSide_d rfl rfl ⟨Nat.le_of_ble_eq_true rfl, Nat.le_of_ble_eq_true rfl⟩ rfl hl.1 rfl (Nat.le_of_ble_eq_true rfl) ⟨Nat.zero_le _, Nat.zero_le _⟩ dX5_label_103 (fun S1 H locs h w => ?_)
      exact M_label_a106 C hT2 hT23 hT44 hT67 hT81 h (lv_sub hl [0, 1] rfl) w
def M_label_w67 (post : MS → Prop) (T2 : Int32 → MS → Prop) (T23 : Int32 → MS → Prop) (T44 : Int32 → MS → Prop) (T67 : MS → Prop) (T81 : Int32 → MS → Prop) (S : MS) : Prop :=
  (((gF S 9) = 0 → post S) ∧ (¬ (gF S 9) = 0 → (fun (S1 : MS) => T81 (0 : Int32) S1) (sF S 9 (0 : Int32))))
set_option maxHeartbeats 4000000 in
set_option maxRecDepth 100000 in
theorem M_label_a67 {p : Program} {l : Launch} {e : Env} {s : State} {m : MethodId} {args : Array Value} {below : List Frame} {meth : Method} {c : Code} {D : va_G} {dA : Nat → ClassId} {o : Nat → Nat} {A : Nat → Prop} {post : MS → Prop} {T2 : Int32 → MS → Prop} {T23 : Int32 → MS → Prop} {T44 : Int32 → MS → Prop} {T67 : MS → Prop} {T81 : Int32 → MS → Prop} (C : mC p m c cX5_label 2 s args meth (Option.none : Option Jvm.ClassFile.FieldType) A) (hT2 : ∀ (x1 : Int32) (S : MS), T2 x1 S → ∀ (H : Heap) (locs : List Loc) (ls : Array Slot), lv_has ls 2 [(0, .ref (o 0)), (1, .int x1)] → mw D dA o A s S H locs → W p l e rM_label s m args below meth c H locs 0 0 (mQv below args s D dA o A post) (F0 m 2 ls [])) (hT23 : ∀ (x1 : Int32) (S : MS), T23 x1 S → ∀ (H : Heap) (locs : List Loc) (ls : Array Slot), lv_has ls 2 [(0, .ref (o 0)), (1, .int x1)] → mw D dA o A s S H locs → W p l e rM_label s m args below meth c H locs 0 0 (mQv below args s D dA o A post) (F0 m 23 ls [])) (hT44 : ∀ (x1 : Int32) (S : MS), T44 x1 S → ∀ (H : Heap) (locs : List Loc) (ls : Array Slot), lv_has ls 2 [(0, .ref (o 0)), (1, .int x1)] → mw D dA o A s S H locs → W p l e rM_label s m args below meth c H locs 0 0 (mQv below args s D dA o A post) (F0 m 44 ls [])) (hT67 : ∀ (S : MS), T67 S → ∀ (H : Heap) (locs : List Loc) (ls : Array Slot), lv_has ls 2 [(0, .ref (o 0))] → mw D dA o A s S H locs → W p l e rM_label s m args below meth c H locs 0 0 (mQv below args s D dA o A post) (F0 m 67 ls [])) (hT81 : ∀ (x1 : Int32) (S : MS), T81 x1 S → ∀ (H : Heap) (locs : List Loc) (ls : Array Slot), lv_has ls 2 [(0, .ref (o 0)), (1, .int x1)] → mw D dA o A s S H locs → W p l e rM_label s m args below meth c H locs 0 0 (mQv below args s D dA o A post) (F0 m 81 ls [])) {S : MS} (h : M_label_w67 post T2 T23 T44 T67 T81 S) {H : Heap} {locs : List Loc} {ls : Array Slot} (hl : lv_has ls 2 [(0, .ref (o 0))]) (w : mw D dA o A s S H locs) : W p l e rM_label s m args below meth c H locs 0 0 (mQv below args s D dA o A post) (F0 m 67 ls []) := by
  unfold M_label_w67 at h
  obtain ⟨⟨hx, hb, hml, hown, hts⟩, hr, hlk, hA⟩ := id C
  refine lv_aload_n hx hb dX5_label_67 rfl (lv_at hl 0 rfl) ?_
  refine mr_get C w 9 (by decide) q586 rfl rfl dX5_label_68 ?_
  obtain ⟨h1, h2⟩ := h
  refine lv_if_eq (tgt := 115) hx hb dX5_label_71 (by decide) (fun c1 => ?_) (fun c1 => ?_)
  · have h := h1 c1
    exact mr_vret C w h dX5_label_115
  · have h := h2 c1
    refine lv_aload_n hx hb dX5_label_74 rfl (lv_at hl 0 rfl) ?_
    refine lv_iconst (v := 0) hx hb dX5_label_75 (by decide) ?_
    refine mr_put (ty := .boolean) C w 9 (by decide) q586 rfl rfl (by decide +kernel) rfl rfl MWf_9 dX5_label_76 (fun H locs w => ?_)
    refine lv_iconst (v := 0) hx hb dX5_label_79 (by decide) ?_
    refine lv_istore_n (lv' := [(1, .int _), (0, .ref _)]) hx hb dX5_label_80 rfl hl (by decide) rfl (fun ls hl => ?_)
    exact hT81 _ _ h _ _ _ (lv_sub hl [1, 0] rfl) w
def M_label_w44 (post : MS → Prop) (T2 : Int32 → MS → Prop) (T23 : Int32 → MS → Prop) (T44 : Int32 → MS → Prop) (T67 : MS → Prop) (T81 : Int32 → MS → Prop) (x1 : Int32) (S : MS) : Prop :=
  (((3 : Int32) ≤ x1 → (fun (S1 : MS) => T67 S1) (sF S 9 (1 : Int32))) ∧ (¬ (3 : Int32) ≤ x1 → (vp_in x1 3 ∧ (fun (S2 : MS) => T44 (x1 + (1 : Int32)) S2) (sI S 8 (x1).toNatClampNeg x1))))
set_option maxHeartbeats 4000000 in
set_option maxRecDepth 100000 in
theorem M_label_a44 {p : Program} {l : Launch} {e : Env} {s : State} {m : MethodId} {args : Array Value} {below : List Frame} {meth : Method} {c : Code} {D : va_G} {dA : Nat → ClassId} {o : Nat → Nat} {A : Nat → Prop} {post : MS → Prop} {T2 : Int32 → MS → Prop} {T23 : Int32 → MS → Prop} {T44 : Int32 → MS → Prop} {T67 : MS → Prop} {T81 : Int32 → MS → Prop} (C : mC p m c cX5_label 2 s args meth (Option.none : Option Jvm.ClassFile.FieldType) A) (hT2 : ∀ (x1 : Int32) (S : MS), T2 x1 S → ∀ (H : Heap) (locs : List Loc) (ls : Array Slot), lv_has ls 2 [(0, .ref (o 0)), (1, .int x1)] → mw D dA o A s S H locs → W p l e rM_label s m args below meth c H locs 0 0 (mQv below args s D dA o A post) (F0 m 2 ls [])) (hT23 : ∀ (x1 : Int32) (S : MS), T23 x1 S → ∀ (H : Heap) (locs : List Loc) (ls : Array Slot), lv_has ls 2 [(0, .ref (o 0)), (1, .int x1)] → mw D dA o A s S H locs → W p l e rM_label s m args below meth c H locs 0 0 (mQv below args s D dA o A post) (F0 m 23 ls [])) (hT44 : ∀ (x1 : Int32) (S : MS), T44 x1 S → ∀ (H : Heap) (locs : List Loc) (ls : Array Slot), lv_has ls 2 [(0, .ref (o 0)), (1, .int x1)] → mw D dA o A s S H locs → W p l e rM_label s m args below meth c H locs 0 0 (mQv below args s D dA o A post) (F0 m 44 ls [])) (hT67 : ∀ (S : MS), T67 S → ∀ (H : Heap) (locs : List Loc) (ls : Array Slot), lv_has ls 2 [(0, .ref (o 0))] → mw D dA o A s S H locs → W p l e rM_label s m args below meth c H locs 0 0 (mQv below args s D dA o A post) (F0 m 67 ls [])) (hT81 : ∀ (x1 : Int32) (S : MS), T81 x1 S → ∀ (H : Heap) (locs : List Loc) (ls : Array Slot), lv_has ls 2 [(0, .ref (o 0)), (1, .int x1)] → mw D dA o A s S H locs → W p l e rM_label s m args below meth c H locs 0 0 (mQv below args s D dA o A post) (F0 m 81 ls [])) {x1 : Int32} {S : MS} (h : M_label_w44 post T2 T23 T44 T67 T81 x1 S) {H : Heap} {locs : List Loc} {ls : Array Slot} (hl : lv_has ls 2 [(0, .ref (o 0)), (1, .int x1)]) (w : mw D dA o A s S H locs) : W p l e rM_label s m args below meth c H locs 0 0 (mQv below args s D dA o A post) (F0 m 44 ls []) := by
  unfold M_label_w44 at h
  obtain ⟨⟨hx, hb, hml, hown, hts⟩, hr, hlk, hA⟩ := id C
  refine lv_iload_n hx hb dX5_label_44 rfl (lv_at hl 1 rfl) ?_
  refine lv_iconst (v := 3) hx hb dX5_label_45 (by decide) ?_
  obtain ⟨h1, h2⟩ := h
  refine lv_icmp_ge (tgt := 62) hx hb dX5_label_46 (by decide) (fun c1 => ?_) (fun c1 => ?_)
  · have h := h1 c1
    refine lv_aload_n hx hb dX5_label_62 rfl (lv_at hl 0 rfl) ?_
    refine lv_iconst (v := 1) hx hb dX5_label_63 (by decide) ?_
    refine mr_put (ty := .boolean) C w 9 (by decide) q586 rfl rfl (by decide +kernel) rfl rfl MWf_9 dX5_label_64 (fun H locs w => ?_)
    exact hT67 _ h _ _ _ (lv_sub hl [0] rfl) w
  · have h := h2 c1
    refine lv_aload_n hx hb dX5_label_49 rfl (lv_at hl 0 rfl) ?_
    refine mr_get C w 8 (by decide) q585 rfl rfl dX5_label_50 ?_
    refine lv_iload_n hx hb dX5_label_53 rfl (lv_at hl 1 rfl) ?_
    refine lv_iload_n hx hb dX5_label_54 rfl (lv_at hl 1 rfl) ?_
    obtain ⟨hi, h⟩ := h
    refine mr_iast C w 8 7 rfl rfl hi MWs_8 dX5_label_55 (fun H locs w => ?_)
    refine lv_iinc (v := _ + (1 : Int32)) (lv' := [(1, .int _), (0, .ref _)]) hx hb dX5_label_56 hl (k := 1) rfl rfl (by decide) rfl (fun ls hl => ?_)
    refine lv_goto (tgt := 44) hx hb dX5_label_59 (by decide) ?_
    exact hT44 _ _ h _ _ _ (lv_sub hl [1, 0] rfl) w
def M_label_w23 (post : MS → Prop) (T2 : Int32 → MS → Prop) (T23 : Int32 → MS → Prop) (T44 : Int32 → MS → Prop) (T67 : MS → Prop) (T81 : Int32 → MS → Prop) (x1 : Int32) (S : MS) : Prop :=
  (((12 : Int32) ≤ x1 → T44 (0 : Int32) S) ∧ (¬ (12 : Int32) ≤ x1 → (vp_in x1 12 ∧ (fun (S1 : MS) => T23 (x1 + (1 : Int32)) S1) (sI S 7 (x1).toNatClampNeg x1))))
set_option maxHeartbeats 4000000 in
set_option maxRecDepth 100000 in
theorem M_label_a23 {p : Program} {l : Launch} {e : Env} {s : State} {m : MethodId} {args : Array Value} {below : List Frame} {meth : Method} {c : Code} {D : va_G} {dA : Nat → ClassId} {o : Nat → Nat} {A : Nat → Prop} {post : MS → Prop} {T2 : Int32 → MS → Prop} {T23 : Int32 → MS → Prop} {T44 : Int32 → MS → Prop} {T67 : MS → Prop} {T81 : Int32 → MS → Prop} (C : mC p m c cX5_label 2 s args meth (Option.none : Option Jvm.ClassFile.FieldType) A) (hT2 : ∀ (x1 : Int32) (S : MS), T2 x1 S → ∀ (H : Heap) (locs : List Loc) (ls : Array Slot), lv_has ls 2 [(0, .ref (o 0)), (1, .int x1)] → mw D dA o A s S H locs → W p l e rM_label s m args below meth c H locs 0 0 (mQv below args s D dA o A post) (F0 m 2 ls [])) (hT23 : ∀ (x1 : Int32) (S : MS), T23 x1 S → ∀ (H : Heap) (locs : List Loc) (ls : Array Slot), lv_has ls 2 [(0, .ref (o 0)), (1, .int x1)] → mw D dA o A s S H locs → W p l e rM_label s m args below meth c H locs 0 0 (mQv below args s D dA o A post) (F0 m 23 ls [])) (hT44 : ∀ (x1 : Int32) (S : MS), T44 x1 S → ∀ (H : Heap) (locs : List Loc) (ls : Array Slot), lv_has ls 2 [(0, .ref (o 0)), (1, .int x1)] → mw D dA o A s S H locs → W p l e rM_label s m args below meth c H locs 0 0 (mQv below args s D dA o A post) (F0 m 44 ls [])) (hT67 : ∀ (S : MS), T67 S → ∀ (H : Heap) (locs : List Loc) (ls : Array Slot), lv_has ls 2 [(0, .ref (o 0))] → mw D dA o A s S H locs → W p l e rM_label s m args below meth c H locs 0 0 (mQv below args s D dA o A post) (F0 m 67 ls [])) (hT81 : ∀ (x1 : Int32) (S : MS), T81 x1 S → ∀ (H : Heap) (locs : List Loc) (ls : Array Slot), lv_has ls 2 [(0, .ref (o 0)), (1, .int x1)] → mw D dA o A s S H locs → W p l e rM_label s m args below meth c H locs 0 0 (mQv below args s D dA o A post) (F0 m 81 ls [])) {x1 : Int32} {S : MS} (h : M_label_w23 post T2 T23 T44 T67 T81 x1 S) {H : Heap} {locs : List Loc} {ls : Array Slot} (hl : lv_has ls 2 [(0, .ref (o 0)), (1, .int x1)]) (w : mw D dA o A s S H locs) : W p l e rM_label s m args below meth c H locs 0 0 (mQv below args s D dA o A post) (F0 m 23 ls []) := by
  unfold M_label_w23 at h
  obtain ⟨⟨hx, hb, hml, hown, hts⟩, hr, hlk, hA⟩ := id C
  refine lv_iload_n hx hb dX5_label_23 rfl (lv_at hl 1 rfl) ?_
  refine lv_bipush (v := 12) hx hb dX5_label_24 (by decide) ?_
  obtain ⟨h1, h2⟩ := h
  refine lv_icmp_ge (tgt := 42) hx hb dX5_label_26 (by decide) (fun c1 => ?_) (fun c1 => ?_)
  · have h := h1 c1
    refine lv_iconst (v := 0) hx hb dX5_label_42 (by decide) ?_
    refine lv_istore_n (lv' := [(1, .int _), (0, .ref _)]) hx hb dX5_label_43 rfl hl (by decide) rfl (fun ls hl => ?_)
    exact hT44 _ _ h _ _ _ (lv_sub hl [1, 0] rfl) w
  · have h := h2 c1
    refine lv_aload_n hx hb dX5_label_29 rfl (lv_at hl 0 rfl) ?_
    refine mr_get C w 7 (by decide) q584 rfl rfl dX5_label_30 ?_
    refine lv_iload_n hx hb dX5_label_33 rfl (lv_at hl 1 rfl) ?_
    refine lv_iload_n hx hb dX5_label_34 rfl (lv_at hl 1 rfl) ?_
    obtain ⟨hi, h⟩ := h
    refine mr_iast C w 7 6 rfl rfl hi MWs_7 dX5_label_35 (fun H locs w => ?_)
    refine lv_iinc (v := _ + (1 : Int32)) (lv' := [(1, .int _), (0, .ref _)]) hx hb dX5_label_36 hl (k := 1) rfl rfl (by decide) rfl (fun ls hl => ?_)
    refine lv_goto (tgt := 23) hx hb dX5_label_39 (by decide) ?_
    exact hT23 _ _ h _ _ _ (lv_sub hl [1, 0] rfl) w
def M_label_w2 (post : MS → Prop) (T2 : Int32 → MS → Prop) (T23 : Int32 → MS → Prop) (T44 : Int32 → MS → Prop) (T67 : MS → Prop) (T81 : Int32 → MS → Prop) (x1 : Int32) (S : MS) : Prop :=
  (((36 : Int32) ≤ x1 → T23 (0 : Int32) S) ∧ (¬ (36 : Int32) ≤ x1 → (vp_in x1 36 ∧ (fun (S1 : MS) => T2 (x1 + (1 : Int32)) S1) (sI S 6 (x1).toNatClampNeg x1))))
set_option maxHeartbeats 4000000 in
set_option maxRecDepth 100000 in
theorem M_label_a2 {p : Program} {l : Launch} {e : Env} {s : State} {m : MethodId} {args : Array Value} {below : List Frame} {meth : Method} {c : Code} {D : va_G} {dA : Nat → ClassId} {o : Nat → Nat} {A : Nat → Prop} {post : MS → Prop} {T2 : Int32 → MS → Prop} {T23 : Int32 → MS → Prop} {T44 : Int32 → MS → Prop} {T67 : MS → Prop} {T81 : Int32 → MS → Prop} (C : mC p m c cX5_label 2 s args meth (Option.none : Option Jvm.ClassFile.FieldType) A) (hT2 : ∀ (x1 : Int32) (S : MS), T2 x1 S → ∀ (H : Heap) (locs : List Loc) (ls : Array Slot), lv_has ls 2 [(0, .ref (o 0)), (1, .int x1)] → mw D dA o A s S H locs → W p l e rM_label s m args below meth c H locs 0 0 (mQv below args s D dA o A post) (F0 m 2 ls [])) (hT23 : ∀ (x1 : Int32) (S : MS), T23 x1 S → ∀ (H : Heap) (locs : List Loc) (ls : Array Slot), lv_has ls 2 [(0, .ref (o 0)), (1, .int x1)] → mw D dA o A s S H locs → W p l e rM_label s m args below meth c H locs 0 0 (mQv below args s D dA o A post) (F0 m 23 ls [])) (hT44 : ∀ (x1 : Int32) (S : MS), T44 x1 S → ∀ (H : Heap) (locs : List Loc) (ls : Array Slot), lv_has ls 2 [(0, .ref (o 0)), (1, .int x1)] → mw D dA o A s S H locs → W p l e rM_label s m args below meth c H locs 0 0 (mQv below args s D dA o A post) (F0 m 44 ls [])) (hT67 : ∀ (S : MS), T67 S → ∀ (H : Heap) (locs : List Loc) (ls : Array Slot), lv_has ls 2 [(0, .ref (o 0))] → mw D dA o A s S H locs → W p l e rM_label s m args below meth c H locs 0 0 (mQv below args s D dA o A post) (F0 m 67 ls [])) (hT81 : ∀ (x1 : Int32) (S : MS), T81 x1 S → ∀ (H : Heap) (locs : List Loc) (ls : Array Slot), lv_has ls 2 [(0, .ref (o 0)), (1, .int x1)] → mw D dA o A s S H locs → W p l e rM_label s m args below meth c H locs 0 0 (mQv below args s D dA o A post) (F0 m 81 ls [])) {x1 : Int32} {S : MS} (h : M_label_w2 post T2 T23 T44 T67 T81 x1 S) {H : Heap} {locs : List Loc} {ls : Array Slot} (hl : lv_has ls 2 [(0, .ref (o 0)), (1, .int x1)]) (w : mw D dA o A s S H locs) : W p l e rM_label s m args below meth c H locs 0 0 (mQv below args s D dA o A post) (F0 m 2 ls []) := by
  unfold M_label_w2 at h
  obtain ⟨⟨hx, hb, hml, hown, hts⟩, hr, hlk, hA⟩ := id C
  refine lv_iload_n hx hb dX5_label_2 rfl (lv_at hl 1 rfl) ?_
  refine lv_bipush (v := 36) hx hb dX5_label_3 (by decide) ?_
  obtain ⟨h1, h2⟩ := h
  refine lv_icmp_ge (tgt := 21) hx hb dX5_label_5 (by decide) (fun c1 => ?_) (fun c1 => ?_)
  · have h := h1 c1
    refine lv_iconst (v := 0) hx hb dX5_label_21 (by decide) ?_
    refine lv_istore_n (lv' := [(1, .int _), (0, .ref _)]) hx hb dX5_label_22 rfl hl (by decide) rfl (fun ls hl => ?_)
    exact hT23 _ _ h _ _ _ (lv_sub hl [1, 0] rfl) w
  · have h := h2 c1
    refine lv_aload_n hx hb dX5_label_8 rfl (lv_at hl 0 rfl) ?_
    refine mr_get C w 6 (by decide) q583 rfl rfl dX5_label_9 ?_
    refine lv_iload_n hx hb dX5_label_12 rfl (lv_at hl 1 rfl) ?_
    refine lv_iload_n hx hb dX5_label_13 rfl (lv_at hl 1 rfl) ?_
    obtain ⟨hi, h⟩ := h
    refine mr_iast C w 6 5 rfl rfl hi MWs_6 dX5_label_14 (fun H locs w => ?_)
    refine lv_iinc (v := _ + (1 : Int32)) (lv' := [(1, .int _), (0, .ref _)]) hx hb dX5_label_15 hl (k := 1) rfl rfl (by decide) rfl (fun ls hl => ?_)
    refine lv_goto (tgt := 2) hx hb dX5_label_18 (by decide) ?_
    exact hT2 _ _ h _ _ _ (lv_sub hl [1, 0] rfl) w
def M_label_w0 (post : MS → Prop) (T2 : Int32 → MS → Prop) (T23 : Int32 → MS → Prop) (T44 : Int32 → MS → Prop) (T67 : MS → Prop) (T81 : Int32 → MS → Prop) (S : MS) : Prop :=
  T2 (0 : Int32) S
set_option maxHeartbeats 4000000 in
set_option maxRecDepth 100000 in
theorem M_label_a0 {p : Program} {l : Launch} {e : Env} {s : State} {m : MethodId} {args : Array Value} {below : List Frame} {meth : Method} {c : Code} {D : va_G} {dA : Nat → ClassId} {o : Nat → Nat} {A : Nat → Prop} {post : MS → Prop} {T2 : Int32 → MS → Prop} {T23 : Int32 → MS → Prop} {T44 : Int32 → MS → Prop} {T67 : MS → Prop} {T81 : Int32 → MS → Prop} (C : mC p m c cX5_label 2 s args meth (Option.none : Option Jvm.ClassFile.FieldType) A) (hT2 : ∀ (x1 : Int32) (S : MS), T2 x1 S → ∀ (H : Heap) (locs : List Loc) (ls : Array Slot), lv_has ls 2 [(0, .ref (o 0)), (1, .int x1)] → mw D dA o A s S H locs → W p l e rM_label s m args below meth c H locs 0 0 (mQv below args s D dA o A post) (F0 m 2 ls [])) (hT23 : ∀ (x1 : Int32) (S : MS), T23 x1 S → ∀ (H : Heap) (locs : List Loc) (ls : Array Slot), lv_has ls 2 [(0, .ref (o 0)), (1, .int x1)] → mw D dA o A s S H locs → W p l e rM_label s m args below meth c H locs 0 0 (mQv below args s D dA o A post) (F0 m 23 ls [])) (hT44 : ∀ (x1 : Int32) (S : MS), T44 x1 S → ∀ (H : Heap) (locs : List Loc) (ls : Array Slot), lv_has ls 2 [(0, .ref (o 0)), (1, .int x1)] → mw D dA o A s S H locs → W p l e rM_label s m args below meth c H locs 0 0 (mQv below args s D dA o A post) (F0 m 44 ls [])) (hT67 : ∀ (S : MS), T67 S → ∀ (H : Heap) (locs : List Loc) (ls : Array Slot), lv_has ls 2 [(0, .ref (o 0))] → mw D dA o A s S H locs → W p l e rM_label s m args below meth c H locs 0 0 (mQv below args s D dA o A post) (F0 m 67 ls [])) (hT81 : ∀ (x1 : Int32) (S : MS), T81 x1 S → ∀ (H : Heap) (locs : List Loc) (ls : Array Slot), lv_has ls 2 [(0, .ref (o 0)), (1, .int x1)] → mw D dA o A s S H locs → W p l e rM_label s m args below meth c H locs 0 0 (mQv below args s D dA o A post) (F0 m 81 ls [])) {S : MS} (h : M_label_w0 post T2 T23 T44 T67 T81 S) {H : Heap} {locs : List Loc} {ls : Array Slot} (hl : lv_has ls 2 [(0, .ref (o 0))]) (w : mw D dA o A s S H locs) : W p l e rM_label s m args below meth c H locs 0 0 (mQv below args s D dA o A post) (F0 m 0 ls []) := by
  unfold M_label_w0 at h
  obtain ⟨⟨hx, hb, hml, hown, hts⟩, hr, hlk, hA⟩ := id C
  refine lv_iconst (v := 0) hx hb dX5_label_0 (by decide) ?_
  refine lv_istore_n (lv' := [(1, .int _), (0, .ref _)]) hx hb dX5_label_1 rfl hl (by decide) rfl (fun ls hl => ?_)
  exact hT2 _ _ h _ _ _ (lv_sub hl [1, 0] rfl) w
def M_label_VC (S : MS) (post : MS → Prop) : Prop := ∀ (T2 : Int32 → MS → Prop) (T23 : Int32 → MS → Prop) (T44 : Int32 → MS → Prop) (T67 : MS → Prop) (T81 : Int32 → MS → Prop), (∀ (x1 : Int32) (S : MS), M_label_w2 post T2 T23 T44 T67 T81 x1 S → T2 x1 S) → (∀ (x1 : Int32) (S : MS), M_label_w23 post T2 T23 T44 T67 T81 x1 S → T23 x1 S) → (∀ (x1 : Int32) (S : MS), M_label_w44 post T2 T23 T44 T67 T81 x1 S → T44 x1 S) → (∀ (S : MS), M_label_w67 post T2 T23 T44 T67 T81 S → T67 S) → (∀ (x1 : Int32) (S : MS), M_label_w81 post T2 T23 T44 T67 T81 x1 S → T81 x1 S) → M_label_w0 post T2 T23 T44 T67 T81 S
theorem M_label_ok {S : MS} {post : MS → Prop} (h : M_label_VC S post) : M_label S post := by
  intro l D dA o sz
  refine mr_start (fun A => va_Qv post (mB D dA o A) A) rfl (Nat.le_of_ble_eq_true rfl) (by decide) ?_
  intro p e s m args below meth c ls A C w hl
  have hl : lv_has ls 2 [(0, .ref (o 0))] := hl
  have h := h (fun (x1 : Int32) S => ∀ (H : Heap) (locs : List Loc) (ls : Array Slot), lv_has ls 2 [(0, .ref (o 0)), (1, .int x1)] → mw D dA o A s S H locs → W p l e rM_label s m args below meth c H locs 0 0 (mQv below args s D dA o A post) (F0 m 2 ls [])) (fun (x1 : Int32) S => ∀ (H : Heap) (locs : List Loc) (ls : Array Slot), lv_has ls 2 [(0, .ref (o 0)), (1, .int x1)] → mw D dA o A s S H locs → W p l e rM_label s m args below meth c H locs 0 0 (mQv below args s D dA o A post) (F0 m 23 ls [])) (fun (x1 : Int32) S => ∀ (H : Heap) (locs : List Loc) (ls : Array Slot), lv_has ls 2 [(0, .ref (o 0)), (1, .int x1)] → mw D dA o A s S H locs → W p l e rM_label s m args below meth c H locs 0 0 (mQv below args s D dA o A post) (F0 m 44 ls [])) (fun S => ∀ (H : Heap) (locs : List Loc) (ls : Array Slot), lv_has ls 2 [(0, .ref (o 0))] → mw D dA o A s S H locs → W p l e rM_label s m args below meth c H locs 0 0 (mQv below args s D dA o A post) (F0 m 67 ls [])) (fun (x1 : Int32) S => ∀ (H : Heap) (locs : List Loc) (ls : Array Slot), lv_has ls 2 [(0, .ref (o 0)), (1, .int x1)] → mw D dA o A s S H locs → W p l e rM_label s m args below meth c H locs 0 0 (mQv below args s D dA o A post) (F0 m 81 ls [])) (fun _ S h H locs ls hl w => M_label_a2 C (fun _ _ h => h) (fun _ _ h => h) (fun _ _ h => h) (fun _ h => h) (fun _ _ h => h) h hl w) (fun _ S h H locs ls hl w => M_label_a23 C (fun _ _ h => h) (fun _ _ h => h) (fun _ _ h => h) (fun _ h => h) (fun _ _ h => h) h hl w) (fun _ S h H locs ls hl w => M_label_a44 C (fun _ _ h => h) (fun _ _ h => h) (fun _ _ h => h) (fun _ h => h) (fun _ _ h => h) h hl w) (fun S h H locs ls hl w => M_label_a67 C (fun _ _ h => h) (fun _ _ h => h) (fun _ _ h => h) (fun _ h => h) (fun _ _ h => h) h hl w) (fun _ S h H locs ls hl w => M_label_a81 C (fun _ _ h => h) (fun _ _ h => h) (fun _ _ h => h) (fun _ h => h) (fun _ _ h => h) h hl w)
  exact M_label_a0 C (fun _ _ h => h) (fun _ _ h => h) (fun _ _ h => h) (fun _ h => h) (fun _ _ h => h) h (lv_sub hl [0] rfl) w

/-! edgeLabel(II)I -/
def M_edgeLabel_w0 (post : Int32 → MS → Prop) (x1 : Int32) (x2 : Int32) (S : MS) : Prop :=
  (vp_in (((12 : Int32) * x1) + ((2 : Int32) * x2)) 36 ∧ (vp_in ((((12 : Int32) * x1) + ((2 : Int32) * x2)) + (1 : Int32)) 36 ∧ M_lesser (gI S 6 ((((12 : Int32) * x1) + ((2 : Int32) * x2))).toNatClampNeg) (gI S 6 (((((12 : Int32) * x1) + ((2 : Int32) * x2)) + (1 : Int32))).toNatClampNeg) S (fun (r1 : Int32) (S1 : MS) => post (r1 / (2 : Int32)) S1)))
set_option maxHeartbeats 4000000 in
set_option maxRecDepth 100000 in
theorem M_edgeLabel_a0 {p : Program} {l : Launch} {e : Env} {s : State} {m : MethodId} {args : Array Value} {below : List Frame} {meth : Method} {c : Code} {D : va_G} {dA : Nat → ClassId} {o : Nat → Nat} {A : Nat → Prop} {post : Int32 → MS → Prop} (C : mC p m c cX5_edgeLabel 3 s args meth (Option.some Jvm.ClassFile.FieldType.int) A) {x1 : Int32} {x2 : Int32} {S : MS} (h : M_edgeLabel_w0 post x1 x2 S) {H : Heap} {locs : List Loc} {ls : Array Slot} (hl : lv_has ls 3 [(0, .ref (o 0)), (1, .int x1), (2, .int x2)]) (w : mw D dA o A s S H locs) : W p l e rM_edgeLabel s m args below meth c H locs 0 0 (mQi below args s D dA o A post) (F0 m 0 ls []) := by
  unfold M_edgeLabel_w0 at h
  obtain ⟨⟨hx, hb, hml, hown, hts⟩, hr, hlk, hA⟩ := id C
  refine lv_aload_n hx hb dX5_edgeLabel_0 rfl (lv_at hl 0 rfl) ?_
  refine mr_get C w 6 (by decide) q583 rfl rfl dX5_edgeLabel_1 ?_
  refine lv_bipush (v := 12) hx hb dX5_edgeLabel_4 (by decide) ?_
  refine lv_iload_n hx hb dX5_edgeLabel_6 rfl (lv_at hl 1 rfl) ?_
  refine lv_imul hx hb dX5_edgeLabel_7 ?_
  refine lv_iconst (v := 2) hx hb dX5_edgeLabel_8 (by decide) ?_
  refine lv_iload_n hx hb dX5_edgeLabel_9 rfl (lv_at hl 2 rfl) ?_
  refine lv_imul hx hb dX5_edgeLabel_10 ?_
  refine lv_iadd hx hb dX5_edgeLabel_11 ?_
  obtain ⟨hi, h⟩ := h
  refine mr_iald C w 6 5 rfl rfl hi dX5_edgeLabel_12 ?_
  refine lv_aload_n hx hb dX5_edgeLabel_13 rfl (lv_at hl 0 rfl) ?_
  refine mr_get C w 6 (by decide) q583 rfl rfl dX5_edgeLabel_14 ?_
  refine lv_bipush (v := 12) hx hb dX5_edgeLabel_17 (by decide) ?_
  refine lv_iload_n hx hb dX5_edgeLabel_19 rfl (lv_at hl 1 rfl) ?_
  refine lv_imul hx hb dX5_edgeLabel_20 ?_
  refine lv_iconst (v := 2) hx hb dX5_edgeLabel_21 (by decide) ?_
  refine lv_iload_n hx hb dX5_edgeLabel_22 rfl (lv_at hl 2 rfl) ?_
  refine lv_imul hx hb dX5_edgeLabel_23 ?_
  refine lv_iadd hx hb dX5_edgeLabel_24 ?_
  refine lv_iconst (v := 1) hx hb dX5_edgeLabel_25 (by decide) ?_
  refine lv_iadd hx hb dX5_edgeLabel_26 ?_
  obtain ⟨hi, h⟩ := h
  refine mr_iald C w 6 5 rfl rfl hi dX5_edgeLabel_27 ?_
  refine mr_callSI (rest := []) C w h (lw_S q707 q708 q87 q709) M_lesser_d rfl rfl ⟨Nat.le_of_ble_eq_true rfl, Nat.le_of_ble_eq_true rfl⟩ rfl hl.1 rfl (Nat.le_of_ble_eq_true rfl) ⟨Nat.zero_le _, Nat.zero_le _⟩ dX5_edgeLabel_28 (fun r1 S1 H locs h w => ?_)
  refine lv_iconst (v := 2) hx hb dX5_edgeLabel_31 (by decide) ?_
  refine lv_idiv hx hb dX5_edgeLabel_32 (by decide) ?_
  exact mr_iret C w h dX5_edgeLabel_33
def M_edgeLabel_VC (x1 : Int32) (x2 : Int32) (S : MS) (post : Int32 → MS → Prop) : Prop := M_edgeLabel_w0 post x1 x2 S
theorem M_edgeLabel_ok {x1 : Int32} {x2 : Int32} {S : MS} {post : Int32 → MS → Prop} (h : M_edgeLabel_VC x1 x2 S post) : M_edgeLabel x1 x2 S post := by
  intro l D dA o sz
  refine mr_start (fun A => va_Qi post (mB D dA o A) A) rfl (Nat.le_of_ble_eq_true rfl) (by decide) ?_
  intro p e s m args below meth c ls A C w hl
  have hl : lv_has ls 3 [(0, .ref (o 0)), (1, .int x1), (2, .int x2)] := hl
  exact M_edgeLabel_a0 C h (lv_sub hl [0, 1, 2] rfl) w

/-! isFirstEdge(I)Z -/
def M_isFirstEdge_w21 (post : Int32 → MS → Prop) (v0 : Int32) (S : MS) : Prop :=
  (zok v0 ∧ post v0 S)
set_option maxHeartbeats 4000000 in
set_option maxRecDepth 100000 in
theorem M_isFirstEdge_a21 {p : Program} {l : Launch} {e : Env} {s : State} {m : MethodId} {args : Array Value} {below : List Frame} {meth : Method} {c : Code} {D : va_G} {dA : Nat → ClassId} {o : Nat → Nat} {A : Nat → Prop} {post : Int32 → MS → Prop} (C : mC p m c cX5_isFirstEdge 2 s args meth (Option.some Jvm.ClassFile.FieldType.boolean) A) {v0 : Int32} {S : MS} (h : M_isFirstEdge_w21 post v0 S) {H : Heap} {locs : List Loc} {ls : Array Slot} (hl : lv_has ls 2 [(0, .ref (o 0))]) (w : mw D dA o A s S H locs) : W p l e rM_isFirstEdge s m args below meth c H locs 0 0 (mQi below args s D dA o A post) (F0 m 21 ls [.int v0]) := by
  unfold M_isFirstEdge_w21 at h
  obtain ⟨⟨hx, hb, hml, hown, hts⟩, hr, hlk, hA⟩ := id C
  exact mr_zret C w (zok_n h.1) h.2 dX5_isFirstEdge_21
def M_isFirstEdge_w0 (post : Int32 → MS → Prop) (x1 : Int32) (S : MS) : Prop :=
  M_edgeLabel (x1 / (6 : Int32)) (x1 - x1 / (6 : Int32) * (6 : Int32)) S (fun (r1 : Int32) (S1 : MS) => ((¬ r1 = x1 → M_isFirstEdge_w21 post (0 : Int32) S1) ∧ (r1 = x1 → M_isFirstEdge_w21 post (1 : Int32) S1)))
set_option maxHeartbeats 4000000 in
set_option maxRecDepth 100000 in
theorem M_isFirstEdge_a0 {p : Program} {l : Launch} {e : Env} {s : State} {m : MethodId} {args : Array Value} {below : List Frame} {meth : Method} {c : Code} {D : va_G} {dA : Nat → ClassId} {o : Nat → Nat} {A : Nat → Prop} {post : Int32 → MS → Prop} (C : mC p m c cX5_isFirstEdge 2 s args meth (Option.some Jvm.ClassFile.FieldType.boolean) A) {x1 : Int32} {S : MS} (h : M_isFirstEdge_w0 post x1 S) {H : Heap} {locs : List Loc} {ls : Array Slot} (hl : lv_has ls 2 [(0, .ref (o 0)), (1, .int x1)]) (w : mw D dA o A s S H locs) : W p l e rM_isFirstEdge s m args below meth c H locs 0 0 (mQi below args s D dA o A post) (F0 m 0 ls []) := by
  unfold M_isFirstEdge_w0 at h
  obtain ⟨⟨hx, hb, hml, hown, hts⟩, hr, hlk, hA⟩ := id C
  refine lv_aload_n hx hb dX5_isFirstEdge_0 rfl (lv_at hl 0 rfl) ?_
  refine lv_iload_n hx hb dX5_isFirstEdge_1 rfl (lv_at hl 1 rfl) ?_
  refine lv_bipush (v := 6) hx hb dX5_isFirstEdge_2 (by decide) ?_
  refine lv_idiv hx hb dX5_isFirstEdge_4 (by decide) ?_
  refine lv_iload_n hx hb dX5_isFirstEdge_5 rfl (lv_at hl 1 rfl) ?_
  refine lv_bipush (v := 6) hx hb dX5_isFirstEdge_6 (by decide) ?_
  refine lv_irem hx hb dX5_isFirstEdge_8 (by decide) ?_
  refine mr_callVI (rest := []) C w h (lw_V q718 q720 qs42 q87 q721) M_edgeLabel_d rfl rfl ⟨Nat.le_of_ble_eq_true rfl, Nat.le_of_ble_eq_true rfl⟩ rfl hl.1 rfl (Nat.le_of_ble_eq_true rfl) ⟨Nat.zero_le _, Nat.zero_le _⟩ dX5_isFirstEdge_9 (fun r1 S1 H locs h w => ?_)
  refine lv_iload_n hx hb dX5_isFirstEdge_12 rfl (lv_at hl 1 rfl) ?_
  obtain ⟨h1, h2⟩ := h
  refine lv_icmp_ne (tgt := 20) hx hb dX5_isFirstEdge_13 (by decide) (fun c1 => ?_) (fun c1 => ?_)
  · have h := h1 c1
    refine lv_iconst (v := 0) hx hb dX5_isFirstEdge_20 (by decide) ?_
    exact M_isFirstEdge_a21 C h (lv_sub hl [0] rfl) w
  · have h := h2 c1
    refine lv_iconst (v := 1) hx hb dX5_isFirstEdge_16 (by decide) ?_
    refine lv_goto (tgt := 21) hx hb dX5_isFirstEdge_17 (by decide) ?_
    exact M_isFirstEdge_a21 C h (lv_sub hl [0] rfl) w
def M_isFirstEdge_VC (x1 : Int32) (S : MS) (post : Int32 → MS → Prop) : Prop := M_isFirstEdge_w0 post x1 S
theorem M_isFirstEdge_ok {x1 : Int32} {S : MS} {post : Int32 → MS → Prop} (h : M_isFirstEdge_VC x1 S post) : M_isFirstEdge x1 S post := by
  intro l D dA o sz
  refine mr_start (fun A => va_Qi post (mB D dA o A) A) rfl (Nat.le_of_ble_eq_true rfl) (by decide) ?_
  intro p e s m args below meth c ls A C w hl
  have hl : lv_has ls 2 [(0, .ref (o 0)), (1, .int x1)] := hl
  exact M_isFirstEdge_a0 C h (lv_sub hl [0, 1] rfl) w

/-! edgeClasses()I -/
def M_edgeClasses_w29 (post : Int32 → MS → Prop) (T4 : Int32 → Int32 → MS → Prop) (v0 : Int32) (v1 : Int32) (x2 : Int32) (S : MS) : Prop :=
  T4 (v1 + v0) (x2 + (1 : Int32)) S
set_option maxHeartbeats 4000000 in
set_option maxRecDepth 100000 in
theorem M_edgeClasses_a29 {p : Program} {l : Launch} {e : Env} {s : State} {m : MethodId} {args : Array Value} {below : List Frame} {meth : Method} {c : Code} {D : va_G} {dA : Nat → ClassId} {o : Nat → Nat} {A : Nat → Prop} {post : Int32 → MS → Prop} {T4 : Int32 → Int32 → MS → Prop} (C : mC p m c cX5_edgeClasses 3 s args meth (Option.some Jvm.ClassFile.FieldType.int) A) (hT4 : ∀ (x1 : Int32) (x2 : Int32) (S : MS), T4 x1 x2 S → ∀ (H : Heap) (locs : List Loc) (ls : Array Slot), lv_has ls 3 [(0, .ref (o 0)), (1, .int x1), (2, .int x2)] → mw D dA o A s S H locs → W p l e rM_edgeClasses s m args below meth c H locs 0 0 (mQi below args s D dA o A post) (F0 m 4 ls [])) {v0 : Int32} {v1 : Int32} {x2 : Int32} {S : MS} (h : M_edgeClasses_w29 post T4 v0 v1 x2 S) {H : Heap} {locs : List Loc} {ls : Array Slot} (hl : lv_has ls 3 [(0, .ref (o 0)), (2, .int x2)]) (w : mw D dA o A s S H locs) : W p l e rM_edgeClasses s m args below meth c H locs 0 0 (mQi below args s D dA o A post) (F0 m 29 ls [.int v0, .int v1]) := by
  unfold M_edgeClasses_w29 at h
  obtain ⟨⟨hx, hb, hml, hown, hts⟩, hr, hlk, hA⟩ := id C
  refine lv_iadd hx hb dX5_edgeClasses_29 ?_
  refine lv_istore_n (lv' := [(1, .int _), (0, .ref _), (2, .int _)]) hx hb dX5_edgeClasses_30 rfl hl (by decide) rfl (fun ls hl => ?_)
  refine lv_iinc (v := _ + (1 : Int32)) (lv' := [(2, .int _), (1, .int _), (0, .ref _)]) hx hb dX5_edgeClasses_31 hl (k := 2) rfl rfl (by decide) rfl (fun ls hl => ?_)
  refine lv_goto (tgt := 4) hx hb dX5_edgeClasses_34 (by decide) ?_
  exact hT4 _ _ _ h _ _ _ (lv_sub hl [2, 1, 0] rfl) w
def M_edgeClasses_w4 (post : Int32 → MS → Prop) (T4 : Int32 → Int32 → MS → Prop) (x1 : Int32) (x2 : Int32) (S : MS) : Prop :=
  ((((6 : Int32) * (gF S 0)) ≤ x2 → post x1 S) ∧ (¬ ((6 : Int32) * (gF S 0)) ≤ x2 → M_isFirstEdge x2 S (fun (r1 : Int32) (S1 : MS) => ((r1 = 0 → M_edgeClasses_w29 post T4 (0 : Int32) x1 x2 S1) ∧ (¬ r1 = 0 → M_edgeClasses_w29 post T4 (1 : Int32) x1 x2 S1)))))
set_option maxHeartbeats 4000000 in
set_option maxRecDepth 100000 in
theorem M_edgeClasses_a4 {p : Program} {l : Launch} {e : Env} {s : State} {m : MethodId} {args : Array Value} {below : List Frame} {meth : Method} {c : Code} {D : va_G} {dA : Nat → ClassId} {o : Nat → Nat} {A : Nat → Prop} {post : Int32 → MS → Prop} {T4 : Int32 → Int32 → MS → Prop} (C : mC p m c cX5_edgeClasses 3 s args meth (Option.some Jvm.ClassFile.FieldType.int) A) (hT4 : ∀ (x1 : Int32) (x2 : Int32) (S : MS), T4 x1 x2 S → ∀ (H : Heap) (locs : List Loc) (ls : Array Slot), lv_has ls 3 [(0, .ref (o 0)), (1, .int x1), (2, .int x2)] → mw D dA o A s S H locs → W p l e rM_edgeClasses s m args below meth c H locs 0 0 (mQi below args s D dA o A post) (F0 m 4 ls [])) {x1 : Int32} {x2 : Int32} {S : MS} (h : M_edgeClasses_w4 post T4 x1 x2 S) {H : Heap} {locs : List Loc} {ls : Array Slot} (hl : lv_has ls 3 [(0, .ref (o 0)), (1, .int x1), (2, .int x2)]) (w : mw D dA o A s S H locs) : W p l e rM_edgeClasses s m args below meth c H locs 0 0 (mQi below args s D dA o A post) (F0 m 4 ls []) := by
  unfold M_edgeClasses_w4 at h
  obtain ⟨⟨hx, hb, hml, hown, hts⟩, hr, hlk, hA⟩ := id C
  refine lv_iload_n hx hb dX5_edgeClasses_4 rfl (lv_at hl 2 rfl) ?_
  refine lv_bipush (v := 6) hx hb dX5_edgeClasses_5 (by decide) ?_
  refine lv_aload_n hx hb dX5_edgeClasses_7 rfl (lv_at hl 0 rfl) ?_
  refine mr_get C w 0 (by decide) q577 rfl rfl dX5_edgeClasses_8 ?_
  refine lv_imul hx hb dX5_edgeClasses_11 ?_
  obtain ⟨h1, h2⟩ := h
  refine lv_icmp_ge (tgt := 37) hx hb dX5_edgeClasses_12 (by decide) (fun c1 => ?_) (fun c1 => ?_)
  · have h := h1 c1
    refine lv_iload_n hx hb dX5_edgeClasses_37 rfl (lv_at hl 1 rfl) ?_
    exact mr_iret C w h dX5_edgeClasses_38
  · have h := h2 c1
    refine lv_iload_n hx hb dX5_edgeClasses_15 rfl (lv_at hl 1 rfl) ?_
    refine lv_aload_n hx hb dX5_edgeClasses_16 rfl (lv_at hl 0 rfl) ?_
    refine lv_iload_n hx hb dX5_edgeClasses_17 rfl (lv_at hl 2 rfl) ?_
    refine mr_callVI (rest := [.int _]) C w h (lw_V q722 q724 qs43 q87 q725) M_isFirstEdge_d rfl rfl ⟨Nat.le_of_ble_eq_true rfl, Nat.le_of_ble_eq_true rfl⟩ rfl hl.1 rfl (Nat.le_of_ble_eq_true rfl) ⟨Nat.zero_le _, Nat.zero_le _⟩ dX5_edgeClasses_18 (fun r1 S1 H locs h w => ?_)
    obtain ⟨h1, h2⟩ := h
    refine lv_if_eq (tgt := 28) hx hb dX5_edgeClasses_21 (by decide) (fun c1 => ?_) (fun c1 => ?_)
    · have h := h1 c1
      refine lv_iconst (v := 0) hx hb dX5_edgeClasses_28 (by decide) ?_
      exact M_edgeClasses_a29 C hT4 h (lv_sub hl [0, 2] rfl) w
    · have h := h2 c1
      refine lv_iconst (v := 1) hx hb dX5_edgeClasses_24 (by decide) ?_
      refine lv_goto (tgt := 29) hx hb dX5_edgeClasses_25 (by decide) ?_
      exact M_edgeClasses_a29 C hT4 h (lv_sub hl [0, 2] rfl) w
def M_edgeClasses_w0 (post : Int32 → MS → Prop) (T4 : Int32 → Int32 → MS → Prop) (S : MS) : Prop :=
  T4 (0 : Int32) (0 : Int32) S
set_option maxHeartbeats 4000000 in
set_option maxRecDepth 100000 in
theorem M_edgeClasses_a0 {p : Program} {l : Launch} {e : Env} {s : State} {m : MethodId} {args : Array Value} {below : List Frame} {meth : Method} {c : Code} {D : va_G} {dA : Nat → ClassId} {o : Nat → Nat} {A : Nat → Prop} {post : Int32 → MS → Prop} {T4 : Int32 → Int32 → MS → Prop} (C : mC p m c cX5_edgeClasses 3 s args meth (Option.some Jvm.ClassFile.FieldType.int) A) (hT4 : ∀ (x1 : Int32) (x2 : Int32) (S : MS), T4 x1 x2 S → ∀ (H : Heap) (locs : List Loc) (ls : Array Slot), lv_has ls 3 [(0, .ref (o 0)), (1, .int x1), (2, .int x2)] → mw D dA o A s S H locs → W p l e rM_edgeClasses s m args below meth c H locs 0 0 (mQi below args s D dA o A post) (F0 m 4 ls [])) {S : MS} (h : M_edgeClasses_w0 post T4 S) {H : Heap} {locs : List Loc} {ls : Array Slot} (hl : lv_has ls 3 [(0, .ref (o 0))]) (w : mw D dA o A s S H locs) : W p l e rM_edgeClasses s m args below meth c H locs 0 0 (mQi below args s D dA o A post) (F0 m 0 ls []) := by
  unfold M_edgeClasses_w0 at h
  obtain ⟨⟨hx, hb, hml, hown, hts⟩, hr, hlk, hA⟩ := id C
  refine lv_iconst (v := 0) hx hb dX5_edgeClasses_0 (by decide) ?_
  refine lv_istore_n (lv' := [(1, .int _), (0, .ref _)]) hx hb dX5_edgeClasses_1 rfl hl (by decide) rfl (fun ls hl => ?_)
  refine lv_iconst (v := 0) hx hb dX5_edgeClasses_2 (by decide) ?_
  refine lv_istore_n (lv' := [(2, .int _), (1, .int _), (0, .ref _)]) hx hb dX5_edgeClasses_3 rfl hl (by decide) rfl (fun ls hl => ?_)
  exact hT4 _ _ _ h _ _ _ (lv_sub hl [2, 1, 0] rfl) w
def M_edgeClasses_VC (S : MS) (post : Int32 → MS → Prop) : Prop := ∀ (T4 : Int32 → Int32 → MS → Prop), (∀ (x1 : Int32) (x2 : Int32) (S : MS), M_edgeClasses_w4 post T4 x1 x2 S → T4 x1 x2 S) → M_edgeClasses_w0 post T4 S
theorem M_edgeClasses_ok {S : MS} {post : Int32 → MS → Prop} (h : M_edgeClasses_VC S post) : M_edgeClasses S post := by
  intro l D dA o sz
  refine mr_start (fun A => va_Qi post (mB D dA o A) A) rfl (Nat.le_of_ble_eq_true rfl) (by decide) ?_
  intro p e s m args below meth c ls A C w hl
  have hl : lv_has ls 3 [(0, .ref (o 0))] := hl
  have h := h (fun (x1 : Int32) (x2 : Int32) S => ∀ (H : Heap) (locs : List Loc) (ls : Array Slot), lv_has ls 3 [(0, .ref (o 0)), (1, .int x1), (2, .int x2)] → mw D dA o A s S H locs → W p l e rM_edgeClasses s m args below meth c H locs 0 0 (mQi below args s D dA o A post) (F0 m 4 ls [])) (fun _ _ S h H locs ls hl w => M_edgeClasses_a4 C (fun _ _ _ h => h) h hl w)
  exact M_edgeClasses_a0 C (fun _ _ _ h => h) h (lv_sub hl [0] rfl) w

/-! cornerClasses()I -/
def M_cornerClasses_w30 (post : Int32 → MS → Prop) (T4 : Int32 → Int32 → MS → Prop) (v0 : Int32) (v1 : Int32) (x2 : Int32) (S : MS) : Prop :=
  T4 (v1 + v0) (x2 + (1 : Int32)) S
set_option maxHeartbeats 4000000 in
set_option maxRecDepth 100000 in
theorem M_cornerClasses_a30 {p : Program} {l : Launch} {e : Env} {s : State} {m : MethodId} {args : Array Value} {below : List Frame} {meth : Method} {c : Code} {D : va_G} {dA : Nat → ClassId} {o : Nat → Nat} {A : Nat → Prop} {post : Int32 → MS → Prop} {T4 : Int32 → Int32 → MS → Prop} (C : mC p m c cX5_cornerClasses 3 s args meth (Option.some Jvm.ClassFile.FieldType.int) A) (hT4 : ∀ (x1 : Int32) (x2 : Int32) (S : MS), T4 x1 x2 S → ∀ (H : Heap) (locs : List Loc) (ls : Array Slot), lv_has ls 3 [(0, .ref (o 0)), (1, .int x1), (2, .int x2)] → mw D dA o A s S H locs → W p l e rM_cornerClasses s m args below meth c H locs 0 0 (mQi below args s D dA o A post) (F0 m 4 ls [])) {v0 : Int32} {v1 : Int32} {x2 : Int32} {S : MS} (h : M_cornerClasses_w30 post T4 v0 v1 x2 S) {H : Heap} {locs : List Loc} {ls : Array Slot} (hl : lv_has ls 3 [(0, .ref (o 0)), (2, .int x2)]) (w : mw D dA o A s S H locs) : W p l e rM_cornerClasses s m args below meth c H locs 0 0 (mQi below args s D dA o A post) (F0 m 30 ls [.int v0, .int v1]) := by
  unfold M_cornerClasses_w30 at h
  obtain ⟨⟨hx, hb, hml, hown, hts⟩, hr, hlk, hA⟩ := id C
  refine lv_iadd hx hb dX5_cornerClasses_30 ?_
  refine lv_istore_n (lv' := [(1, .int _), (0, .ref _), (2, .int _)]) hx hb dX5_cornerClasses_31 rfl hl (by decide) rfl (fun ls hl => ?_)
  refine lv_iinc (v := _ + (1 : Int32)) (lv' := [(2, .int _), (1, .int _), (0, .ref _)]) hx hb dX5_cornerClasses_32 hl (k := 2) rfl rfl (by decide) rfl (fun ls hl => ?_)
  refine lv_goto (tgt := 4) hx hb dX5_cornerClasses_35 (by decide) ?_
  exact hT4 _ _ _ h _ _ _ (lv_sub hl [2, 1, 0] rfl) w
def M_cornerClasses_w4 (post : Int32 → MS → Prop) (T4 : Int32 → Int32 → MS → Prop) (x1 : Int32) (x2 : Int32) (S : MS) : Prop :=
  ((((4 : Int32) * (gF S 0)) ≤ x2 → post x1 S) ∧ (¬ ((4 : Int32) * (gF S 0)) ≤ x2 → (vp_in x2 12 ∧ ((¬ (gI S 7 (x2).toNatClampNeg) = x2 → M_cornerClasses_w30 post T4 (0 : Int32) x1 x2 S) ∧ ((gI S 7 (x2).toNatClampNeg) = x2 → M_cornerClasses_w30 post T4 (1 : Int32) x1 x2 S)))))
set_option maxHeartbeats 4000000 in
set_option maxRecDepth 100000 in
theorem M_cornerClasses_a4 {p : Program} {l : Launch} {e : Env} {s : State} {m : MethodId} {args : Array Value} {below : List Frame} {meth : Method} {c : Code} {D : va_G} {dA : Nat → ClassId} {o : Nat → Nat} {A : Nat → Prop} {post : Int32 → MS → Prop} {T4 : Int32 → Int32 → MS → Prop} (C : mC p m c cX5_cornerClasses 3 s args meth (Option.some Jvm.ClassFile.FieldType.int) A) (hT4 : ∀ (x1 : Int32) (x2 : Int32) (S : MS), T4 x1 x2 S → ∀ (H : Heap) (locs : List Loc) (ls : Array Slot), lv_has ls 3 [(0, .ref (o 0)), (1, .int x1), (2, .int x2)] → mw D dA o A s S H locs → W p l e rM_cornerClasses s m args below meth c H locs 0 0 (mQi below args s D dA o A post) (F0 m 4 ls [])) {x1 : Int32} {x2 : Int32} {S : MS} (h : M_cornerClasses_w4 post T4 x1 x2 S) {H : Heap} {locs : List Loc} {ls : Array Slot} (hl : lv_has ls 3 [(0, .ref (o 0)), (1, .int x1), (2, .int x2)]) (w : mw D dA o A s S H locs) : W p l e rM_cornerClasses s m args below meth c H locs 0 0 (mQi below args s D dA o A post) (F0 m 4 ls []) := by
  unfold M_cornerClasses_w4 at h
  obtain ⟨⟨hx, hb, hml, hown, hts⟩, hr, hlk, hA⟩ := id C
  refine lv_iload_n hx hb dX5_cornerClasses_4 rfl (lv_at hl 2 rfl) ?_
  refine lv_iconst (v := 4) hx hb dX5_cornerClasses_5 (by decide) ?_
  refine lv_aload_n hx hb dX5_cornerClasses_6 rfl (lv_at hl 0 rfl) ?_
  refine mr_get C w 0 (by decide) q577 rfl rfl dX5_cornerClasses_7 ?_
  refine lv_imul hx hb dX5_cornerClasses_10 ?_
  obtain ⟨h1, h2⟩ := h
  refine lv_icmp_ge (tgt := 38) hx hb dX5_cornerClasses_11 (by decide) (fun c1 => ?_) (fun c1 => ?_)
  · have h := h1 c1
    refine lv_iload_n hx hb dX5_cornerClasses_38 rfl (lv_at hl 1 rfl) ?_
    exact mr_iret C w h dX5_cornerClasses_39
  · have h := h2 c1
    refine lv_iload_n hx hb dX5_cornerClasses_14 rfl (lv_at hl 1 rfl) ?_
    refine lv_aload_n hx hb dX5_cornerClasses_15 rfl (lv_at hl 0 rfl) ?_
    refine mr_get C w 7 (by decide) q584 rfl rfl dX5_cornerClasses_16 ?_
    refine lv_iload_n hx hb dX5_cornerClasses_19 rfl (lv_at hl 2 rfl) ?_
    obtain ⟨hi, h⟩ := h
    refine mr_iald C w 7 6 rfl rfl hi dX5_cornerClasses_20 ?_
    refine lv_iload_n hx hb dX5_cornerClasses_21 rfl (lv_at hl 2 rfl) ?_
    obtain ⟨h1, h2⟩ := h
    refine lv_icmp_ne (tgt := 29) hx hb dX5_cornerClasses_22 (by decide) (fun c1 => ?_) (fun c1 => ?_)
    · have h := h1 c1
      refine lv_iconst (v := 0) hx hb dX5_cornerClasses_29 (by decide) ?_
      exact M_cornerClasses_a30 C hT4 h (lv_sub hl [0, 2] rfl) w
    · have h := h2 c1
      refine lv_iconst (v := 1) hx hb dX5_cornerClasses_25 (by decide) ?_
      refine lv_goto (tgt := 30) hx hb dX5_cornerClasses_26 (by decide) ?_
      exact M_cornerClasses_a30 C hT4 h (lv_sub hl [0, 2] rfl) w
def M_cornerClasses_w0 (post : Int32 → MS → Prop) (T4 : Int32 → Int32 → MS → Prop) (S : MS) : Prop :=
  T4 (0 : Int32) (0 : Int32) S
set_option maxHeartbeats 4000000 in
set_option maxRecDepth 100000 in
theorem M_cornerClasses_a0 {p : Program} {l : Launch} {e : Env} {s : State} {m : MethodId} {args : Array Value} {below : List Frame} {meth : Method} {c : Code} {D : va_G} {dA : Nat → ClassId} {o : Nat → Nat} {A : Nat → Prop} {post : Int32 → MS → Prop} {T4 : Int32 → Int32 → MS → Prop} (C : mC p m c cX5_cornerClasses 3 s args meth (Option.some Jvm.ClassFile.FieldType.int) A) (hT4 : ∀ (x1 : Int32) (x2 : Int32) (S : MS), T4 x1 x2 S → ∀ (H : Heap) (locs : List Loc) (ls : Array Slot), lv_has ls 3 [(0, .ref (o 0)), (1, .int x1), (2, .int x2)] → mw D dA o A s S H locs → W p l e rM_cornerClasses s m args below meth c H locs 0 0 (mQi below args s D dA o A post) (F0 m 4 ls [])) {S : MS} (h : M_cornerClasses_w0 post T4 S) {H : Heap} {locs : List Loc} {ls : Array Slot} (hl : lv_has ls 3 [(0, .ref (o 0))]) (w : mw D dA o A s S H locs) : W p l e rM_cornerClasses s m args below meth c H locs 0 0 (mQi below args s D dA o A post) (F0 m 0 ls []) := by
  unfold M_cornerClasses_w0 at h
  obtain ⟨⟨hx, hb, hml, hown, hts⟩, hr, hlk, hA⟩ := id C
  refine lv_iconst (v := 0) hx hb dX5_cornerClasses_0 (by decide) ?_
  refine lv_istore_n (lv' := [(1, .int _), (0, .ref _)]) hx hb dX5_cornerClasses_1 rfl hl (by decide) rfl (fun ls hl => ?_)
  refine lv_iconst (v := 0) hx hb dX5_cornerClasses_2 (by decide) ?_
  refine lv_istore_n (lv' := [(2, .int _), (1, .int _), (0, .ref _)]) hx hb dX5_cornerClasses_3 rfl hl (by decide) rfl (fun ls hl => ?_)
  exact hT4 _ _ _ h _ _ _ (lv_sub hl [2, 1, 0] rfl) w
def M_cornerClasses_VC (S : MS) (post : Int32 → MS → Prop) : Prop := ∀ (T4 : Int32 → Int32 → MS → Prop), (∀ (x1 : Int32) (x2 : Int32) (S : MS), M_cornerClasses_w4 post T4 x1 x2 S → T4 x1 x2 S) → M_cornerClasses_w0 post T4 S
theorem M_cornerClasses_ok {S : MS} {post : Int32 → MS → Prop} (h : M_cornerClasses_VC S post) : M_cornerClasses S post := by
  intro l D dA o sz
  refine mr_start (fun A => va_Qi post (mB D dA o A) A) rfl (Nat.le_of_ble_eq_true rfl) (by decide) ?_
  intro p e s m args below meth c ls A C w hl
  have hl : lv_has ls 3 [(0, .ref (o 0))] := hl
  have h := h (fun (x1 : Int32) (x2 : Int32) S => ∀ (H : Heap) (locs : List Loc) (ls : Array Slot), lv_has ls 3 [(0, .ref (o 0)), (1, .int x1), (2, .int x2)] → mw D dA o A s S H locs → W p l e rM_cornerClasses s m args below meth c H locs 0 0 (mQi below args s D dA o A post) (F0 m 4 ls [])) (fun _ _ S h H locs ls hl w => M_cornerClasses_a4 C (fun _ _ _ h => h) h hl w)
  exact M_cornerClasses_a0 C (fun _ _ _ h => h) h (lv_sub hl [0] rfl) w

/-! edgeOfClass(I)I -/
def M_edgeOfClass_w42 (post : Int32 → MS → Prop) (T4 : Int32 → Int32 → Int32 → MS → Prop) (S : MS) : Prop :=
  post (-1 : Int32) S
set_option maxHeartbeats 4000000 in
set_option maxRecDepth 100000 in
theorem M_edgeOfClass_a42 {p : Program} {l : Launch} {e : Env} {s : State} {m : MethodId} {args : Array Value} {below : List Frame} {meth : Method} {c : Code} {D : va_G} {dA : Nat → ClassId} {o : Nat → Nat} {A : Nat → Prop} {post : Int32 → MS → Prop} {T4 : Int32 → Int32 → Int32 → MS → Prop} (C : mC p m c cX5_edgeOfClass 4 s args meth (Option.some Jvm.ClassFile.FieldType.int) A) (hT4 : ∀ (x1 : Int32) (x2 : Int32) (x3 : Int32) (S : MS), T4 x1 x2 x3 S → ∀ (H : Heap) (locs : List Loc) (ls : Array Slot), lv_has ls 4 [(0, .ref (o 0)), (1, .int x1), (2, .int x2), (3, .int x3)] → mw D dA o A s S H locs → W p l e rM_edgeOfClass s m args below meth c H locs 0 0 (mQi below args s D dA o A post) (F0 m 4 ls [])) {S : MS} (h : M_edgeOfClass_w42 post T4 S) {H : Heap} {locs : List Loc} {ls : Array Slot} (hl : lv_has ls 4 [(0, .ref (o 0))]) (w : mw D dA o A s S H locs) : W p l e rM_edgeOfClass s m args below meth c H locs 0 0 (mQi below args s D dA o A post) (F0 m 42 ls []) := by
  unfold M_edgeOfClass_w42 at h
  obtain ⟨⟨hx, hb, hml, hown, hts⟩, hr, hlk, hA⟩ := id C
  refine lv_iconst (v := -1) hx hb dX5_edgeOfClass_42 (by decide) ?_
  exact mr_iret C w h dX5_edgeOfClass_43
def M_edgeOfClass_w36 (post : Int32 → MS → Prop) (T4 : Int32 → Int32 → Int32 → MS → Prop) (x1 : Int32) (x2 : Int32) (x3 : Int32) (S : MS) : Prop :=
  T4 x1 x2 (x3 + (1 : Int32)) S
set_option maxHeartbeats 4000000 in
set_option maxRecDepth 100000 in
theorem M_edgeOfClass_a36 {p : Program} {l : Launch} {e : Env} {s : State} {m : MethodId} {args : Array Value} {below : List Frame} {meth : Method} {c : Code} {D : va_G} {dA : Nat → ClassId} {o : Nat → Nat} {A : Nat → Prop} {post : Int32 → MS → Prop} {T4 : Int32 → Int32 → Int32 → MS → Prop} (C : mC p m c cX5_edgeOfClass 4 s args meth (Option.some Jvm.ClassFile.FieldType.int) A) (hT4 : ∀ (x1 : Int32) (x2 : Int32) (x3 : Int32) (S : MS), T4 x1 x2 x3 S → ∀ (H : Heap) (locs : List Loc) (ls : Array Slot), lv_has ls 4 [(0, .ref (o 0)), (1, .int x1), (2, .int x2), (3, .int x3)] → mw D dA o A s S H locs → W p l e rM_edgeOfClass s m args below meth c H locs 0 0 (mQi below args s D dA o A post) (F0 m 4 ls [])) {x1 : Int32} {x2 : Int32} {x3 : Int32} {S : MS} (h : M_edgeOfClass_w36 post T4 x1 x2 x3 S) {H : Heap} {locs : List Loc} {ls : Array Slot} (hl : lv_has ls 4 [(0, .ref (o 0)), (1, .int x1), (2, .int x2), (3, .int x3)]) (w : mw D dA o A s S H locs) : W p l e rM_edgeOfClass s m args below meth c H locs 0 0 (mQi below args s D dA o A post) (F0 m 36 ls []) := by
  unfold M_edgeOfClass_w36 at h
  obtain ⟨⟨hx, hb, hml, hown, hts⟩, hr, hlk, hA⟩ := id C
  refine lv_iinc (v := _ + (1 : Int32)) (lv' := [(3, .int _), (0, .ref _), (1, .int _), (2, .int _)]) hx hb dX5_edgeOfClass_36 hl (k := 3) rfl rfl (by decide) rfl (fun ls hl => ?_)
  refine lv_goto (tgt := 4) hx hb dX5_edgeOfClass_39 (by decide) ?_
  exact hT4 _ _ _ _ h _ _ _ (lv_sub hl [1, 2, 3, 0] rfl) w
def M_edgeOfClass_w4 (post : Int32 → MS → Prop) (T4 : Int32 → Int32 → Int32 → MS → Prop) (x1 : Int32) (x2 : Int32) (x3 : Int32) (S : MS) : Prop :=
  ((((6 : Int32) * (gF S 0)) ≤ x3 → M_edgeOfClass_w42 post T4 S) ∧ (¬ ((6 : Int32) * (gF S 0)) ≤ x3 → ((x1 < 0 → M_edgeOfClass_w42 post T4 S) ∧ (¬ x1 < 0 → M_isFirstEdge x3 S (fun (r1 : Int32) (S1 : MS) => ((r1 = 0 → M_edgeOfClass_w36 post T4 x1 x2 x3 S1) ∧ (¬ r1 = 0 → ((¬ x2 = 0 → M_edgeOfClass_w36 post T4 x1 (x2 + (-1 : Int32)) x3 S1) ∧ (x2 = 0 → post x3 S1)))))))))
set_option maxHeartbeats 4000000 in
set_option maxRecDepth 100000 in
theorem M_edgeOfClass_a4 {p : Program} {l : Launch} {e : Env} {s : State} {m : MethodId} {args : Array Value} {below : List Frame} {meth : Method} {c : Code} {D : va_G} {dA : Nat → ClassId} {o : Nat → Nat} {A : Nat → Prop} {post : Int32 → MS → Prop} {T4 : Int32 → Int32 → Int32 → MS → Prop} (C : mC p m c cX5_edgeOfClass 4 s args meth (Option.some Jvm.ClassFile.FieldType.int) A) (hT4 : ∀ (x1 : Int32) (x2 : Int32) (x3 : Int32) (S : MS), T4 x1 x2 x3 S → ∀ (H : Heap) (locs : List Loc) (ls : Array Slot), lv_has ls 4 [(0, .ref (o 0)), (1, .int x1), (2, .int x2), (3, .int x3)] → mw D dA o A s S H locs → W p l e rM_edgeOfClass s m args below meth c H locs 0 0 (mQi below args s D dA o A post) (F0 m 4 ls [])) {x1 : Int32} {x2 : Int32} {x3 : Int32} {S : MS} (h : M_edgeOfClass_w4 post T4 x1 x2 x3 S) {H : Heap} {locs : List Loc} {ls : Array Slot} (hl : lv_has ls 4 [(0, .ref (o 0)), (1, .int x1), (2, .int x2), (3, .int x3)]) (w : mw D dA o A s S H locs) : W p l e rM_edgeOfClass s m args below meth c H locs 0 0 (mQi below args s D dA o A post) (F0 m 4 ls []) := by
  unfold M_edgeOfClass_w4 at h
  obtain ⟨⟨hx, hb, hml, hown, hts⟩, hr, hlk, hA⟩ := id C
  refine lv_iload_n hx hb dX5_edgeOfClass_4 rfl (lv_at hl 3 rfl) ?_
  refine lv_bipush (v := 6) hx hb dX5_edgeOfClass_5 (by decide) ?_
  refine lv_aload_n hx hb dX5_edgeOfClass_7 rfl (lv_at hl 0 rfl) ?_
  refine mr_get C w 0 (by decide) q577 rfl rfl dX5_edgeOfClass_8 ?_
  refine lv_imul hx hb dX5_edgeOfClass_11 ?_
  obtain ⟨h1, h2⟩ := h
  refine lv_icmp_ge (tgt := 42) hx hb dX5_edgeOfClass_12 (by decide) (fun c1 => ?_) (fun c1 => ?_)
  · have h := h1 c1
    exact M_edgeOfClass_a42 C hT4 h (lv_sub hl [0] rfl) w
  · have h := h2 c1
    refine lv_iload_n hx hb dX5_edgeOfClass_15 rfl (lv_at hl 1 rfl) ?_
    obtain ⟨h1, h2⟩ := h
    refine lv_if_lt (tgt := 42) hx hb dX5_edgeOfClass_16 (by decide) (fun c1 => ?_) (fun c1 => ?_)
    · have h := h1 c1
      exact M_edgeOfClass_a42 C hT4 h (lv_sub hl [0] rfl) w
    · have h := h2 c1
      refine lv_aload_n hx hb dX5_edgeOfClass_19 rfl (lv_at hl 0 rfl) ?_
      refine lv_iload_n hx hb dX5_edgeOfClass_20 rfl (lv_at hl 3 rfl) ?_
      refine mr_callVI (rest := []) C w h (lw_V q722 q724 qs43 q87 q725) M_isFirstEdge_d rfl rfl ⟨Nat.le_of_ble_eq_true rfl, Nat.le_of_ble_eq_true rfl⟩ rfl hl.1 rfl (Nat.le_of_ble_eq_true rfl) ⟨Nat.zero_le _, Nat.zero_le _⟩ dX5_edgeOfClass_21 (fun r1 S1 H locs h w => ?_)
      obtain ⟨h1, h2⟩ := h
      refine lv_if_eq (tgt := 36) hx hb dX5_edgeOfClass_24 (by decide) (fun c1 => ?_) (fun c1 => ?_)
      · have h := h1 c1
        exact M_edgeOfClass_a36 C hT4 h (lv_sub hl [0, 1, 2, 3] rfl) w
      · have h := h2 c1
        refine lv_iload_n hx hb dX5_edgeOfClass_27 rfl (lv_at hl 2 rfl) ?_
        obtain ⟨h1, h2⟩ := h
        refine lv_if_ne (tgt := 33) hx hb dX5_edgeOfClass_28 (by decide) (fun c1 => ?_) (fun c1 => ?_)
        · have h := h1 c1
          refine lv_iinc (v := _ + (-1 : Int32)) (lv' := [(2, .int _), (0, .ref _), (1, .int _), (3, .int _)]) hx hb dX5_edgeOfClass_33 hl (k := 2) rfl rfl (by decide) rfl (fun ls hl => ?_)
          exact M_edgeOfClass_a36 C hT4 h (lv_sub hl [1, 2, 0, 3] rfl) w
        · have h := h2 c1
          refine lv_iload_n hx hb dX5_edgeOfClass_31 rfl (lv_at hl 3 rfl) ?_
          exact mr_iret C w h dX5_edgeOfClass_32
def M_edgeOfClass_w0 (post : Int32 → MS → Prop) (T4 : Int32 → Int32 → Int32 → MS → Prop) (x1 : Int32) (S : MS) : Prop :=
  T4 x1 x1 (0 : Int32) S
set_option maxHeartbeats 4000000 in
set_option maxRecDepth 100000 in
theorem M_edgeOfClass_a0 {p : Program} {l : Launch} {e : Env} {s : State} {m : MethodId} {args : Array Value} {below : List Frame} {meth : Method} {c : Code} {D : va_G} {dA : Nat → ClassId} {o : Nat → Nat} {A : Nat → Prop} {post : Int32 → MS → Prop} {T4 : Int32 → Int32 → Int32 → MS → Prop} (C : mC p m c cX5_edgeOfClass 4 s args meth (Option.some Jvm.ClassFile.FieldType.int) A) (hT4 : ∀ (x1 : Int32) (x2 : Int32) (x3 : Int32) (S : MS), T4 x1 x2 x3 S → ∀ (H : Heap) (locs : List Loc) (ls : Array Slot), lv_has ls 4 [(0, .ref (o 0)), (1, .int x1), (2, .int x2), (3, .int x3)] → mw D dA o A s S H locs → W p l e rM_edgeOfClass s m args below meth c H locs 0 0 (mQi below args s D dA o A post) (F0 m 4 ls [])) {x1 : Int32} {S : MS} (h : M_edgeOfClass_w0 post T4 x1 S) {H : Heap} {locs : List Loc} {ls : Array Slot} (hl : lv_has ls 4 [(0, .ref (o 0)), (1, .int x1)]) (w : mw D dA o A s S H locs) : W p l e rM_edgeOfClass s m args below meth c H locs 0 0 (mQi below args s D dA o A post) (F0 m 0 ls []) := by
  unfold M_edgeOfClass_w0 at h
  obtain ⟨⟨hx, hb, hml, hown, hts⟩, hr, hlk, hA⟩ := id C
  refine lv_iload_n hx hb dX5_edgeOfClass_0 rfl (lv_at hl 1 rfl) ?_
  refine lv_istore_n (lv' := [(2, .int _), (0, .ref _), (1, .int _)]) hx hb dX5_edgeOfClass_1 rfl hl (by decide) rfl (fun ls hl => ?_)
  refine lv_iconst (v := 0) hx hb dX5_edgeOfClass_2 (by decide) ?_
  refine lv_istore_n (lv' := [(3, .int _), (2, .int _), (0, .ref _), (1, .int _)]) hx hb dX5_edgeOfClass_3 rfl hl (by decide) rfl (fun ls hl => ?_)
  exact hT4 _ _ _ _ h _ _ _ (lv_sub hl [2, 3, 1, 0] rfl) w
def M_edgeOfClass_VC (x1 : Int32) (S : MS) (post : Int32 → MS → Prop) : Prop := ∀ (T4 : Int32 → Int32 → Int32 → MS → Prop), (∀ (x1 : Int32) (x2 : Int32) (x3 : Int32) (S : MS), M_edgeOfClass_w4 post T4 x1 x2 x3 S → T4 x1 x2 x3 S) → M_edgeOfClass_w0 post T4 x1 S
theorem M_edgeOfClass_ok {x1 : Int32} {S : MS} {post : Int32 → MS → Prop} (h : M_edgeOfClass_VC x1 S post) : M_edgeOfClass x1 S post := by
  intro l D dA o sz
  refine mr_start (fun A => va_Qi post (mB D dA o A) A) rfl (Nat.le_of_ble_eq_true rfl) (by decide) ?_
  intro p e s m args below meth c ls A C w hl
  have hl : lv_has ls 4 [(0, .ref (o 0)), (1, .int x1)] := hl
  have h := h (fun (x1 : Int32) (x2 : Int32) (x3 : Int32) S => ∀ (H : Heap) (locs : List Loc) (ls : Array Slot), lv_has ls 4 [(0, .ref (o 0)), (1, .int x1), (2, .int x2), (3, .int x3)] → mw D dA o A s S H locs → W p l e rM_edgeOfClass s m args below meth c H locs 0 0 (mQi below args s D dA o A post) (F0 m 4 ls [])) (fun _ _ _ S h H locs ls hl w => M_edgeOfClass_a4 C (fun _ _ _ _ h => h) h hl w)
  exact M_edgeOfClass_a0 C (fun _ _ _ _ h => h) h (lv_sub hl [0, 1] rfl) w

/-! cornerOfClass(I)I -/
def M_cornerOfClass_w43 (post : Int32 → MS → Prop) (T4 : Int32 → Int32 → Int32 → MS → Prop) (S : MS) : Prop :=
  post (-1 : Int32) S
set_option maxHeartbeats 4000000 in
set_option maxRecDepth 100000 in
theorem M_cornerOfClass_a43 {p : Program} {l : Launch} {e : Env} {s : State} {m : MethodId} {args : Array Value} {below : List Frame} {meth : Method} {c : Code} {D : va_G} {dA : Nat → ClassId} {o : Nat → Nat} {A : Nat → Prop} {post : Int32 → MS → Prop} {T4 : Int32 → Int32 → Int32 → MS → Prop} (C : mC p m c cX5_cornerOfClass 4 s args meth (Option.some Jvm.ClassFile.FieldType.int) A) (hT4 : ∀ (x1 : Int32) (x2 : Int32) (x3 : Int32) (S : MS), T4 x1 x2 x3 S → ∀ (H : Heap) (locs : List Loc) (ls : Array Slot), lv_has ls 4 [(0, .ref (o 0)), (1, .int x1), (2, .int x2), (3, .int x3)] → mw D dA o A s S H locs → W p l e rM_cornerOfClass s m args below meth c H locs 0 0 (mQi below args s D dA o A post) (F0 m 4 ls [])) {S : MS} (h : M_cornerOfClass_w43 post T4 S) {H : Heap} {locs : List Loc} {ls : Array Slot} (hl : lv_has ls 4 [(0, .ref (o 0))]) (w : mw D dA o A s S H locs) : W p l e rM_cornerOfClass s m args below meth c H locs 0 0 (mQi below args s D dA o A post) (F0 m 43 ls []) := by
  unfold M_cornerOfClass_w43 at h
  obtain ⟨⟨hx, hb, hml, hown, hts⟩, hr, hlk, hA⟩ := id C
  refine lv_iconst (v := -1) hx hb dX5_cornerOfClass_43 (by decide) ?_
  exact mr_iret C w h dX5_cornerOfClass_44
def M_cornerOfClass_w37 (post : Int32 → MS → Prop) (T4 : Int32 → Int32 → Int32 → MS → Prop) (x1 : Int32) (x2 : Int32) (x3 : Int32) (S : MS) : Prop :=
  T4 x1 x2 (x3 + (1 : Int32)) S
set_option maxHeartbeats 4000000 in
set_option maxRecDepth 100000 in
theorem M_cornerOfClass_a37 {p : Program} {l : Launch} {e : Env} {s : State} {m : MethodId} {args : Array Value} {below : List Frame} {meth : Method} {c : Code} {D : va_G} {dA : Nat → ClassId} {o : Nat → Nat} {A : Nat → Prop} {post : Int32 → MS → Prop} {T4 : Int32 → Int32 → Int32 → MS → Prop} (C : mC p m c cX5_cornerOfClass 4 s args meth (Option.some Jvm.ClassFile.FieldType.int) A) (hT4 : ∀ (x1 : Int32) (x2 : Int32) (x3 : Int32) (S : MS), T4 x1 x2 x3 S → ∀ (H : Heap) (locs : List Loc) (ls : Array Slot), lv_has ls 4 [(0, .ref (o 0)), (1, .int x1), (2, .int x2), (3, .int x3)] → mw D dA o A s S H locs → W p l e rM_cornerOfClass s m args below meth c H locs 0 0 (mQi below args s D dA o A post) (F0 m 4 ls [])) {x1 : Int32} {x2 : Int32} {x3 : Int32} {S : MS} (h : M_cornerOfClass_w37 post T4 x1 x2 x3 S) {H : Heap} {locs : List Loc} {ls : Array Slot} (hl : lv_has ls 4 [(0, .ref (o 0)), (1, .int x1), (2, .int x2), (3, .int x3)]) (w : mw D dA o A s S H locs) : W p l e rM_cornerOfClass s m args below meth c H locs 0 0 (mQi below args s D dA o A post) (F0 m 37 ls []) := by
  unfold M_cornerOfClass_w37 at h
  obtain ⟨⟨hx, hb, hml, hown, hts⟩, hr, hlk, hA⟩ := id C
  refine lv_iinc (v := _ + (1 : Int32)) (lv' := [(3, .int _), (0, .ref _), (1, .int _), (2, .int _)]) hx hb dX5_cornerOfClass_37 hl (k := 3) rfl rfl (by decide) rfl (fun ls hl => ?_)
  refine lv_goto (tgt := 4) hx hb dX5_cornerOfClass_40 (by decide) ?_
  exact hT4 _ _ _ _ h _ _ _ (lv_sub hl [1, 2, 3, 0] rfl) w
def M_cornerOfClass_w4 (post : Int32 → MS → Prop) (T4 : Int32 → Int32 → Int32 → MS → Prop) (x1 : Int32) (x2 : Int32) (x3 : Int32) (S : MS) : Prop :=
  ((((4 : Int32) * (gF S 0)) ≤ x3 → M_cornerOfClass_w43 post T4 S) ∧ (¬ ((4 : Int32) * (gF S 0)) ≤ x3 → ((x1 < 0 → M_cornerOfClass_w43 post T4 S) ∧ (¬ x1 < 0 → (vp_in x3 12 ∧ ((¬ (gI S 7 (x3).toNatClampNeg) = x3 → M_cornerOfClass_w37 post T4 x1 x2 x3 S) ∧ ((gI S 7 (x3).toNatClampNeg) = x3 → ((¬ x2 = 0 → M_cornerOfClass_w37 post T4 x1 (x2 + (-1 : Int32)) x3 S) ∧ (x2 = 0 → post x3 S)))))))))
set_option maxHeartbeats 4000000 in
set_option maxRecDepth 100000 in
theorem M_cornerOfClass_a4 {p : Program} {l : Launch} {e : Env} {s : State} {m : MethodId} {args : Array Value} {below : List Frame} {meth : Method} {c : Code} {D : va_G} {dA : Nat → ClassId} {o : Nat → Nat} {A : Nat → Prop} {post : Int32 → MS → Prop} {T4 : Int32 → Int32 → Int32 → MS → Prop} (C : mC p m c cX5_cornerOfClass 4 s args meth (Option.some Jvm.ClassFile.FieldType.int) A) (hT4 : ∀ (x1 : Int32) (x2 : Int32) (x3 : Int32) (S : MS), T4 x1 x2 x3 S → ∀ (H : Heap) (locs : List Loc) (ls : Array Slot), lv_has ls 4 [(0, .ref (o 0)), (1, .int x1), (2, .int x2), (3, .int x3)] → mw D dA o A s S H locs → W p l e rM_cornerOfClass s m args below meth c H locs 0 0 (mQi below args s D dA o A post) (F0 m 4 ls [])) {x1 : Int32} {x2 : Int32} {x3 : Int32} {S : MS} (h : M_cornerOfClass_w4 post T4 x1 x2 x3 S) {H : Heap} {locs : List Loc} {ls : Array Slot} (hl : lv_has ls 4 [(0, .ref (o 0)), (1, .int x1), (2, .int x2), (3, .int x3)]) (w : mw D dA o A s S H locs) : W p l e rM_cornerOfClass s m args below meth c H locs 0 0 (mQi below args s D dA o A post) (F0 m 4 ls []) := by
  unfold M_cornerOfClass_w4 at h
  obtain ⟨⟨hx, hb, hml, hown, hts⟩, hr, hlk, hA⟩ := id C
  refine lv_iload_n hx hb dX5_cornerOfClass_4 rfl (lv_at hl 3 rfl) ?_
  refine lv_iconst (v := 4) hx hb dX5_cornerOfClass_5 (by decide) ?_
  refine lv_aload_n hx hb dX5_cornerOfClass_6 rfl (lv_at hl 0 rfl) ?_
  refine mr_get C w 0 (by decide) q577 rfl rfl dX5_cornerOfClass_7 ?_
  refine lv_imul hx hb dX5_cornerOfClass_10 ?_
  obtain ⟨h1, h2⟩ := h
  refine lv_icmp_ge (tgt := 43) hx hb dX5_cornerOfClass_11 (by decide) (fun c1 => ?_) (fun c1 => ?_)
  · have h := h1 c1
    exact M_cornerOfClass_a43 C hT4 h (lv_sub hl [0] rfl) w
  · have h := h2 c1
    refine lv_iload_n hx hb dX5_cornerOfClass_14 rfl (lv_at hl 1 rfl) ?_
    obtain ⟨h1, h2⟩ := h
    refine lv_if_lt (tgt := 43) hx hb dX5_cornerOfClass_15 (by decide) (fun c1 => ?_) (fun c1 => ?_)
    · have h := h1 c1
      exact M_cornerOfClass_a43 C hT4 h (lv_sub hl [0] rfl) w
    · have h := h2 c1
      refine lv_aload_n hx hb dX5_cornerOfClass_18 rfl (lv_at hl 0 rfl) ?_
      refine mr_get C w 7 (by decide) q584 rfl rfl dX5_cornerOfClass_19 ?_
      refine lv_iload_n hx hb dX5_cornerOfClass_22 rfl (lv_at hl 3 rfl) ?_
      obtain ⟨hi, h⟩ := h
      refine mr_iald C w 7 6 rfl rfl hi dX5_cornerOfClass_23 ?_
      refine lv_iload_n hx hb dX5_cornerOfClass_24 rfl (lv_at hl 3 rfl) ?_
      obtain ⟨h1, h2⟩ := h
      refine lv_icmp_ne (tgt := 37) hx hb dX5_cornerOfClass_25 (by decide) (fun c1 => ?_) (fun c1 => ?_)
      · have h := h1 c1
        exact M_cornerOfClass_a37 C hT4 h (lv_sub hl [0, 1, 2, 3] rfl) w
      · have h := h2 c1
        refine lv_iload_n hx hb dX5_cornerOfClass_28 rfl (lv_at hl 2 rfl) ?_
        obtain ⟨h1, h2⟩ := h
        refine lv_if_ne (tgt := 34) hx hb dX5_cornerOfClass_29 (by decide) (fun c1 => ?_) (fun c1 => ?_)
        · have h := h1 c1
          refine lv_iinc (v := _ + (-1 : Int32)) (lv' := [(2, .int _), (0, .ref _), (1, .int _), (3, .int _)]) hx hb dX5_cornerOfClass_34 hl (k := 2) rfl rfl (by decide) rfl (fun ls hl => ?_)
          exact M_cornerOfClass_a37 C hT4 h (lv_sub hl [1, 2, 0, 3] rfl) w
        · have h := h2 c1
          refine lv_iload_n hx hb dX5_cornerOfClass_32 rfl (lv_at hl 3 rfl) ?_
          exact mr_iret C w h dX5_cornerOfClass_33
def M_cornerOfClass_w0 (post : Int32 → MS → Prop) (T4 : Int32 → Int32 → Int32 → MS → Prop) (x1 : Int32) (S : MS) : Prop :=
  T4 x1 x1 (0 : Int32) S
set_option maxHeartbeats 4000000 in
set_option maxRecDepth 100000 in
theorem M_cornerOfClass_a0 {p : Program} {l : Launch} {e : Env} {s : State} {m : MethodId} {args : Array Value} {below : List Frame} {meth : Method} {c : Code} {D : va_G} {dA : Nat → ClassId} {o : Nat → Nat} {A : Nat → Prop} {post : Int32 → MS → Prop} {T4 : Int32 → Int32 → Int32 → MS → Prop} (C : mC p m c cX5_cornerOfClass 4 s args meth (Option.some Jvm.ClassFile.FieldType.int) A) (hT4 : ∀ (x1 : Int32) (x2 : Int32) (x3 : Int32) (S : MS), T4 x1 x2 x3 S → ∀ (H : Heap) (locs : List Loc) (ls : Array Slot), lv_has ls 4 [(0, .ref (o 0)), (1, .int x1), (2, .int x2), (3, .int x3)] → mw D dA o A s S H locs → W p l e rM_cornerOfClass s m args below meth c H locs 0 0 (mQi below args s D dA o A post) (F0 m 4 ls [])) {x1 : Int32} {S : MS} (h : M_cornerOfClass_w0 post T4 x1 S) {H : Heap} {locs : List Loc} {ls : Array Slot} (hl : lv_has ls 4 [(0, .ref (o 0)), (1, .int x1)]) (w : mw D dA o A s S H locs) : W p l e rM_cornerOfClass s m args below meth c H locs 0 0 (mQi below args s D dA o A post) (F0 m 0 ls []) := by
  unfold M_cornerOfClass_w0 at h
  obtain ⟨⟨hx, hb, hml, hown, hts⟩, hr, hlk, hA⟩ := id C
  refine lv_iload_n hx hb dX5_cornerOfClass_0 rfl (lv_at hl 1 rfl) ?_
  refine lv_istore_n (lv' := [(2, .int _), (0, .ref _), (1, .int _)]) hx hb dX5_cornerOfClass_1 rfl hl (by decide) rfl (fun ls hl => ?_)
  refine lv_iconst (v := 0) hx hb dX5_cornerOfClass_2 (by decide) ?_
  refine lv_istore_n (lv' := [(3, .int _), (2, .int _), (0, .ref _), (1, .int _)]) hx hb dX5_cornerOfClass_3 rfl hl (by decide) rfl (fun ls hl => ?_)
  exact hT4 _ _ _ _ h _ _ _ (lv_sub hl [2, 3, 1, 0] rfl) w
def M_cornerOfClass_VC (x1 : Int32) (S : MS) (post : Int32 → MS → Prop) : Prop := ∀ (T4 : Int32 → Int32 → Int32 → MS → Prop), (∀ (x1 : Int32) (x2 : Int32) (x3 : Int32) (S : MS), M_cornerOfClass_w4 post T4 x1 x2 x3 S → T4 x1 x2 x3 S) → M_cornerOfClass_w0 post T4 x1 S
theorem M_cornerOfClass_ok {x1 : Int32} {S : MS} {post : Int32 → MS → Prop} (h : M_cornerOfClass_VC x1 S post) : M_cornerOfClass x1 S post := by
  intro l D dA o sz
  refine mr_start (fun A => va_Qi post (mB D dA o A) A) rfl (Nat.le_of_ble_eq_true rfl) (by decide) ?_
  intro p e s m args below meth c ls A C w hl
  have hl : lv_has ls 4 [(0, .ref (o 0)), (1, .int x1)] := hl
  have h := h (fun (x1 : Int32) (x2 : Int32) (x3 : Int32) S => ∀ (H : Heap) (locs : List Loc) (ls : Array Slot), lv_has ls 4 [(0, .ref (o 0)), (1, .int x1), (2, .int x2), (3, .int x3)] → mw D dA o A s S H locs → W p l e rM_cornerOfClass s m args below meth c H locs 0 0 (mQi below args s D dA o A post) (F0 m 4 ls [])) (fun _ _ _ S h H locs ls hl w => M_cornerOfClass_a4 C (fun _ _ _ _ h => h) h hl w)
  exact M_cornerOfClass_a0 C (fun _ _ _ _ h => h) h (lv_sub hl [0, 1] rfl) w
