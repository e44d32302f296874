/-! holes(I)I -/
def M_holes_w170 (post : Int32 → MS → Prop) (T32 : Int32 → Int32 → Int32 → Int32 → MS → Prop) (T56 : Int32 → Int32 → Int32 → Int32 → MS → Prop) (v0 : Int32) (S : MS) : Prop :=
  post v0 S
set_option maxHeartbeats 4000000 in
set_option maxRecDepth 100000 in
theorem M_holes_a170 {p : Program} {l : Launch} {e : Env} {s : State} {m : MethodId} {args : Array Value} {below : List Frame} {meth : Method} {c : Code} {D : va_G} {dA : Nat → ClassId} {o : Nat → Nat} {A : Nat → Prop} {post : Int32 → MS → Prop} {T32 : Int32 → Int32 → Int32 → Int32 → MS → Prop} {T56 : Int32 → Int32 → Int32 → Int32 → MS → Prop} (C : mC p m c cX5_holes 7 s args meth (Option.some Jvm.ClassFile.FieldType.int) A) (hT32 : ∀ (x1 : Int32) (x2 : Int32) (x3 : Int32) (x4 : Int32) (S : MS), T32 x1 x2 x3 x4 S → ∀ (H : Heap) (locs : List Loc) (ls : Array Slot), lv_has ls 7 [(0, .ref (o 0)), (1, .int x1), (2, .int x2), (3, .int x3), (4, .int x4)] → mw D dA o A s S H locs → W p l e rM_holes s m args below meth c H locs 0 0 (mQi below args s D dA o A post) (F0 m 32 ls [])) (hT56 : ∀ (x1 : Int32) (x2 : Int32) (x3 : Int32) (x4 : Int32) (S : MS), T56 x1 x2 x3 x4 S → ∀ (H : Heap) (locs : List Loc) (ls : Array Slot), lv_has ls 7 [(0, .ref (o 0)), (1, .int x1), (2, .int x2), (3, .int x3), (4, .int x4)] → mw D dA o A s S H locs → W p l e rM_holes s m args below meth c H locs 0 0 (mQi below args s D dA o A post) (F0 m 56 ls [])) {v0 : Int32} {S : MS} (h : M_holes_w170 post T32 T56 v0 S) {H : Heap} {locs : List Loc} {ls : Array Slot} (hl : lv_has ls 7 [(0, .ref (o 0))]) (w : mw D dA o A s S H locs) : W p l e rM_holes s m args below meth c H locs 0 0 (mQi below args s D dA o A post) (F0 m 170 ls [.int v0]) := by
  unfold M_holes_w170 at h
  obtain ⟨⟨hx, hb, hml, hown, hts⟩, hr, hlk, hA⟩ := id C
  exact mr_iret C w h dX5_holes_170
def M_holes_w145 (post : Int32 → MS → Prop) (T32 : Int32 → Int32 → Int32 → Int32 → MS → Prop) (T56 : Int32 → Int32 → Int32 → Int32 → MS → Prop) (x1 : Int32) (x2 : Int32) (x4 : Int32) (S : MS) : Prop :=
  ((¬ x1 = 0 → M_holes_w170 post T32 T56 x4 S) ∧ (x1 = 0 → M_setMany S (fun (r1 : Int32) (S1 : MS) => M_holes_w170 post T32 T56 ((((gF S 12) - (gF S 0)) + r1) - x2) S1)))
set_option maxHeartbeats 4000000 in
set_option maxRecDepth 100000 in
theorem M_holes_a145 {p : Program} {l : Launch} {e : Env} {s : State} {m : MethodId} {args : Array Value} {below : List Frame} {meth : Method} {c : Code} {D : va_G} {dA : Nat → ClassId} {o : Nat → Nat} {A : Nat → Prop} {post : Int32 → MS → Prop} {T32 : Int32 → Int32 → Int32 → Int32 → MS → Prop} {T56 : Int32 → Int32 → Int32 → Int32 → MS → Prop} (C : mC p m c cX5_holes 7 s args meth (Option.some Jvm.ClassFile.FieldType.int) A) (hT32 : ∀ (x1 : Int32) (x2 : Int32) (x3 : Int32) (x4 : Int32) (S : MS), T32 x1 x2 x3 x4 S → ∀ (H : Heap) (locs : List Loc) (ls : Array Slot), lv_has ls 7 [(0, .ref (o 0)), (1, .int x1), (2, .int x2), (3, .int x3), (4, .int x4)] → mw D dA o A s S H locs → W p l e rM_holes s m args below meth c H locs 0 0 (mQi below args s D dA o A post) (F0 m 32 ls [])) (hT56 : ∀ (x1 : Int32) (x2 : Int32) (x3 : Int32) (x4 : Int32) (S : MS), T56 x1 x2 x3 x4 S → ∀ (H : Heap) (locs : List Loc) (ls : Array Slot), lv_has ls 7 [(0, .ref (o 0)), (1, .int x1), (2, .int x2), (3, .int x3), (4, .int x4)] → mw D dA o A s S H locs → W p l e rM_holes s m args below meth c H locs 0 0 (mQi below args s D dA o A post) (F0 m 56 ls [])) {x1 : Int32} {x2 : Int32} {x4 : Int32} {S : MS} (h : M_holes_w145 post T32 T56 x1 x2 x4 S) {H : Heap} {locs : List Loc} {ls : Array Slot} (hl : lv_has ls 7 [(0, .ref (o 0)), (1, .int x1), (2, .int x2), (4, .int x4)]) (w : mw D dA o A s S H locs) : W p l e rM_holes s m args below meth c H locs 0 0 (mQi below args s D dA o A post) (F0 m 145 ls []) := by
  unfold M_holes_w145 at h
  obtain ⟨⟨hx, hb, hml, hown, hts⟩, hr, hlk, hA⟩ := id C
  refine lv_iload_n hx hb dX5_holes_145 rfl (lv_at hl 1 rfl) ?_
  obtain ⟨h1, h2⟩ := h
  refine lv_if_ne (tgt := 168) hx hb dX5_holes_146 (by decide) (fun c1 => ?_) (fun c1 => ?_)
  · have h := h1 c1
    refine lv_iload hx hb dX5_holes_168 (lv_at hl 3 rfl) ?_
    exact M_holes_a170 C hT32 hT56 h (lv_sub hl [0] rfl) w
  · have h := h2 c1
    refine lv_aload_n hx hb dX5_holes_149 rfl (lv_at hl 0 rfl) ?_
    refine mr_get C w 12 (by decide) q589 rfl rfl dX5_holes_150 ?_
    refine lv_aload_n hx hb dX5_holes_153 rfl (lv_at hl 0 rfl) ?_
    refine mr_get C w 0 (by decide) q577 rfl rfl dX5_holes_154 ?_
    refine lv_isub hx hb dX5_holes_157 ?_
    refine lv_aload_n hx hb dX5_holes_158 rfl (lv_at hl 0 rfl) ?_
    refine mr_callVI (rest := [.int _]) C w h (lw_V q783 q785 qs55 q87 q786) M_setMany_d rfl rfl ⟨Nat.le_of_ble_eq_true rfl, Nat.le_of_ble_eq_true rfl⟩ rfl hl.1 rfl (Nat.le_of_ble_eq_true rfl) ⟨Nat.zero_le _, Nat.zero_le _⟩ dX5_holes_159 (fun r1 S1 H locs h w => ?_)
    refine lv_iadd hx hb dX5_holes_162 ?_
    refine lv_iload_n hx hb dX5_holes_163 rfl (lv_at hl 2 rfl) ?_
    refine lv_isub hx hb dX5_holes_164 ?_
    refine lv_goto (tgt := 170) hx hb dX5_holes_165 (by decide) ?_
    exact M_holes_a170 C hT32 hT56 h (lv_sub hl [0] rfl) w
def M_holes_w137 (post : Int32 → MS → Prop) (T32 : Int32 → Int32 → Int32 → Int32 → MS → Prop) (T56 : Int32 → Int32 → Int32 → Int32 → MS → Prop) (v0 : Int32) (x1 : Int32) (x2 : Int32) (x3 : Int32) (S : MS) : Prop :=
  T32 x1 (x2 + (1 : Int32)) x3 v0 S
set_option maxHeartbeats 4000000 in
set_option maxRecDepth 100000 in
theorem M_holes_a137 {p : Program} {l : Launch} {e : Env} {s : State} {m : MethodId} {args : Array Value} {below : List Frame} {meth : Method} {c : Code} {D : va_G} {dA : Nat → ClassId} {o : Nat → Nat} {A : Nat → Prop} {post : Int32 → MS → Prop} {T32 : Int32 → Int32 → Int32 → Int32 → MS → Prop} {T56 : Int32 → Int32 → Int32 → Int32 → MS → Prop} (C : mC p m c cX5_holes 7 s args meth (Option.some Jvm.ClassFile.FieldType.int) A) (hT32 : ∀ (x1 : Int32) (x2 : Int32) (x3 : Int32) (x4 : Int32) (S : MS), T32 x1 x2 x3 x4 S → ∀ (H : Heap) (locs : List Loc) (ls : Array Slot), lv_has ls 7 [(0, .ref (o 0)), (1, .int x1), (2, .int x2), (3, .int x3), (4, .int x4)] → mw D dA o A s S H locs → W p l e rM_holes s m args below meth c H locs 0 0 (mQi below args s D dA o A post) (F0 m 32 ls [])) (hT56 : ∀ (x1 : Int32) (x2 : Int32) (x3 : Int32) (x4 : Int32) (S : MS), T56 x1 x2 x3 x4 S → ∀ (H : Heap) (locs : List Loc) (ls : Array Slot), lv_has ls 7 [(0, .ref (o 0)), (1, .int x1), (2, .int x2), (3, .int x3), (4, .int x4)] → mw D dA o A s S H locs → W p l e rM_holes s m args below meth c H locs 0 0 (mQi below args s D dA o A post) (F0 m 56 ls [])) {v0 : Int32} {x1 : Int32} {x2 : Int32} {x3 : Int32} {S : MS} (h : M_holes_w137 post T32 T56 v0 x1 x2 x3 S) {H : Heap} {locs : List Loc} {ls : Array Slot} (hl : lv_has ls 7 [(0, .ref (o 0)), (1, .int x1), (2, .int x2), (3, .int x3)]) (w : mw D dA o A s S H locs) : W p l e rM_holes s m args below meth c H locs 0 0 (mQi below args s D dA o A post) (F0 m 137 ls [.int v0]) := by
  unfold M_holes_w137 at h
  obtain ⟨⟨hx, hb, hml, hown, hts⟩, hr, hlk, hA⟩ := id C
  refine lv_istore (lv' := [(4, .int _), (0, .ref _), (1, .int _), (2, .int _), (3, .int _)]) hx hb dX5_holes_137 hl (by decide) rfl (fun ls hl => ?_)
  refine lv_iinc (v := _ + (1 : Int32)) (lv' := [(2, .int _), (4, .int _), (0, .ref _), (1, .int _), (3, .int _)]) hx hb dX5_holes_139 hl (k := 3) rfl rfl (by decide) rfl (fun ls hl => ?_)
  refine lv_goto (tgt := 32) hx hb dX5_holes_142 (by decide) ?_
  exact hT32 _ _ _ _ _ h _ _ _ (lv_sub hl [2, 3, 0, 4, 1] rfl) w
def M_holes_w135 (post : Int32 → MS → Prop) (T32 : Int32 → Int32 → Int32 → Int32 → MS → Prop) (T56 : Int32 → Int32 → Int32 → Int32 → MS → Prop) (x1 : Int32) (x2 : Int32) (x3 : Int32) (x4 : Int32) (S : MS) : Prop :=
  M_holes_w137 post T32 T56 x4 x1 x2 x3 S
set_option maxHeartbeats 4000000 in
set_option maxRecDepth 100000 in
theorem M_holes_a135 {p : Program} {l : Launch} {e : Env} {s : State} {m : MethodId} {args : Array Value} {below : List Frame} {meth : Method} {c : Code} {D : va_G} {dA : Nat → ClassId} {o : Nat → Nat} {A : Nat → Prop} {post : Int32 → MS → Prop} {T32 : Int32 → Int32 → Int32 → Int32 → MS → Prop} {T56 : Int32 → Int32 → Int32 → Int32 → MS → Prop} (C : mC p m c cX5_holes 7 s args meth (Option.some Jvm.ClassFile.FieldType.int) A) (hT32 : ∀ (x1 : Int32) (x2 : Int32) (x3 : Int32) (x4 : Int32) (S : MS), T32 x1 x2 x3 x4 S → ∀ (H : Heap) (locs : List Loc) (ls : Array Slot), lv_has ls 7 [(0, .ref (o 0)), (1, .int x1), (2, .int x2), (3, .int x3), (4, .int x4)] → mw D dA o A s S H locs → W p l e rM_holes s m args below meth c H locs 0 0 (mQi below args s D dA o A post) (F0 m 32 ls [])) (hT56 : ∀ (x1 : Int32) (x2 : Int32) (x3 : Int32) (x4 : Int32) (S : MS), T56 x1 x2 x3 x4 S → ∀ (H : Heap) (locs : List Loc) (ls : Array Slot), lv_has ls 7 [(0, .ref (o 0)), (1, .int x1), (2, .int x2), (3, .int x3), (4, .int x4)] → mw D dA o A s S H locs → W p l e rM_holes s m args below meth c H locs 0 0 (mQi below args s D dA o A post) (F0 m 56 ls [])) {x1 : Int32} {x2 : Int32} {x3 : Int32} {x4 : Int32} {S : MS} (h : M_holes_w135 post T32 T56 x1 x2 x3 x4 S) {H : Heap} {locs : List Loc} {ls : Array Slot} (hl : lv_has ls 7 [(0, .ref (o 0)), (1, .int x1), (2, .int x2), (3, .int x3), (4, .int x4)]) (w : mw D dA o A s S H locs) : W p l e rM_holes s m args below meth c H locs 0 0 (mQi below args s D dA o A post) (F0 m 135 ls []) := by
  unfold M_holes_w135 at h
  obtain ⟨⟨hx, hb, hml, hown, hts⟩, hr, hlk, hA⟩ := id C
  refine lv_iload hx hb dX5_holes_135 (lv_at hl 4 rfl) ?_
  exact M_holes_a137 C hT32 hT56 h (lv_sub hl [0, 1, 2, 3] rfl) w
def M_holes_w115 (post : Int32 → MS → Prop) (T32 : Int32 → Int32 → Int32 → Int32 → MS → Prop) (T56 : Int32 → Int32 → Int32 → Int32 → MS → Prop) (v0 : Int32) (v1 : Int32) (x1 : Int32) (x2 : Int32) (x4 : Int32) (x5 : Int64) (S : MS) : Prop :=
  ((x5 ≤ (1 : Int64) → M_holes_w135 post T32 T56 x1 x2 (v1 + v0) x4 S) ∧ (¬ x5 ≤ (1 : Int64) → ((¬ (v1 + v0) = x1 → M_holes_w135 post T32 T56 x1 x2 (v1 + v0) x4 S) ∧ ((v1 + v0) = x1 → M_holes_w137 post T32 T56 (x5).toInt32 x1 x2 (v1 + v0) S))))
set_option maxHeartbeats 4000000 in
set_option maxRecDepth 100000 in
theorem M_holes_a115 {p : Program} {l : Launch} {e : Env} {s : State} {m : MethodId} {args : Array Value} {below : List Frame} {meth : Method} {c : Code} {D : va_G} {dA : Nat → ClassId} {o : Nat → Nat} {A : Nat → Prop} {post : Int32 → MS → Prop} {T32 : Int32 → Int32 → Int32 → Int32 → MS → Prop} {T56 : Int32 → Int32 → Int32 → Int32 → MS → Prop} (C : mC p m c cX5_holes 7 s args meth (Option.some Jvm.ClassFile.FieldType.int) A) (hT32 : ∀ (x1 : Int32) (x2 : Int32) (x3 : Int32) (x4 : Int32) (S : MS), T32 x1 x2 x3 x4 S → ∀ (H : Heap) (locs : List Loc) (ls : Array Slot), lv_has ls 7 [(0, .ref (o 0)), (1, .int x1), (2, .int x2), (3, .int x3), (4, .int x4)] → mw D dA o A s S H locs → W p l e rM_holes s m args below meth c H locs 0 0 (mQi below args s D dA o A post) (F0 m 32 ls [])) (hT56 : ∀ (x1 : Int32) (x2 : Int32) (x3 : Int32) (x4 : Int32) (S : MS), T56 x1 x2 x3 x4 S → ∀ (H : Heap) (locs : List Loc) (ls : Array Slot), lv_has ls 7 [(0, .ref (o 0)), (1, .int x1), (2, .int x2), (3, .int x3), (4, .int x4)] → mw D dA o A s S H locs → W p l e rM_holes s m args below meth c H locs 0 0 (mQi below args s D dA o A post) (F0 m 56 ls [])) {v0 : Int32} {v1 : Int32} {x1 : Int32} {x2 : Int32} {x4 : Int32} {x5 : Int64} {S : MS} (h : M_holes_w115 post T32 T56 v0 v1 x1 x2 x4 x5 S) {H : Heap} {locs : List Loc} {ls : Array Slot} (hl : lv_has ls 7 [(0, .ref (o 0)), (1, .int x1), (2, .int x2), (4, .int x4), (5, .long x5)]) (w : mw D dA o A s S H locs) : W p l e rM_holes s m args below meth c H locs 0 0 (mQi below args s D dA o A post) (F0 m 115 ls [.int v0, .int v1]) := by
  unfold M_holes_w115 at h
  obtain ⟨⟨hx, hb, hml, hown, hts⟩, hr, hlk, hA⟩ := id C
  refine lv_iadd hx hb dX5_holes_115 ?_
  refine lv_istore_n (lv' := [(3, .int _), (0, .ref _), (1, .int _), (2, .int _), (4, .int _), (5, .long _)]) hx hb dX5_holes_116 rfl hl (by decide) rfl (fun ls hl => ?_)
  refine lv_lload hx hb dX5_holes_117 (lv_at hl 5 rfl) ?_
  refine lv_lconst (v := 1) hx hb dX5_holes_119 (by decide) ?_
  refine W.lcmp hx hb dX5_holes_120 ?_
  obtain ⟨h1, h2⟩ := h
  refine lv_if_le (tgt := 135) hx hb dX5_holes_121 (by decide) (fun c1 => ?_) (fun c1 => ?_)
  · have h := h1 ((lg_cmp_le _ _).mp c1)
    exact M_holes_a135 C hT32 hT56 h (lv_sub hl [1, 2, 3, 0, 4] rfl) w
  · have h := h2 (mt (lg_cmp_le _ _).mpr c1)
    refine lv_iload_n hx hb dX5_holes_124 rfl (lv_at hl 0 rfl) ?_
    refine lv_iload_n hx hb dX5_holes_125 rfl (lv_at hl 2 rfl) ?_
    obtain ⟨h1, h2⟩ := h
    refine lv_icmp_ne (tgt := 135) hx hb dX5_holes_126 (by decide) (fun c1 => ?_) (fun c1 => ?_)
    · have h := h1 c1
      exact M_holes_a135 C hT32 hT56 h (lv_sub hl [1, 2, 3, 0, 4] rfl) w
    · have h := h2 c1
      refine lv_lload hx hb dX5_holes_129 (lv_at hl 5 rfl) ?_
      refine lv_l2i hx hb dX5_holes_131 rfl ?_
      refine lv_goto (tgt := 137) hx hb dX5_holes_132 (by decide) ?_
      exact M_holes_a137 C hT32 hT56 h (lv_sub hl [1, 2, 3, 0] rfl) w
def M_holes_w100 (post : Int32 → MS → Prop) (T32 : Int32 → Int32 → Int32 → Int32 → MS → Prop) (T56 : Int32 → Int32 → Int32 → Int32 → MS → Prop) (v0 : Int64) (x1 : Int32) (x2 : Int32) (x3 : Int32) (x4 : Int32) (S : MS) : Prop :=
  ((v0 ≤ (1 : Int64) → M_holes_w115 post T32 T56 (0 : Int32) x3 x1 x2 x4 v0 S) ∧ (¬ v0 ≤ (1 : Int64) → M_holes_w115 post T32 T56 (1 : Int32) x3 x1 x2 x4 v0 S))
set_option maxHeartbeats 4000000 in
set_option maxRecDepth 100000 in
theorem M_holes_a100 {p : Program} {l : Launch} {e : Env} {s : State} {m : MethodId} {args : Array Value} {below : List Frame} {meth : Method} {c : Code} {D : va_G} {dA : Nat → ClassId} {o : Nat → Nat} {A : Nat → Prop} {post : Int32 → MS → Prop} {T32 : Int32 → Int32 → Int32 → Int32 → MS → Prop} {T56 : Int32 → Int32 → Int32 → Int32 → MS → Prop} (C : mC p m c cX5_holes 7 s args meth (Option.some Jvm.ClassFile.FieldType.int) A) (hT32 : ∀ (x1 : Int32) (x2 : Int32) (x3 : Int32) (x4 : Int32) (S : MS), T32 x1 x2 x3 x4 S → ∀ (H : Heap) (locs : List Loc) (ls : Array Slot), lv_has ls 7 [(0, .ref (o 0)), (1, .int x1), (2, .int x2), (3, .int x3), (4, .int x4)] → mw D dA o A s S H locs → W p l e rM_holes s m args below meth c H locs 0 0 (mQi below args s D dA o A post) (F0 m 32 ls [])) (hT56 : ∀ (x1 : Int32) (x2 : Int32) (x3 : Int32) (x4 : Int32) (S : MS), T56 x1 x2 x3 x4 S → ∀ (H : Heap) (locs : List Loc) (ls : Array Slot), lv_has ls 7 [(0, .ref (o 0)), (1, .int x1), (2, .int x2), (3, .int x3), (4, .int x4)] → mw D dA o A s S H locs → W p l e rM_holes s m args below meth c H locs 0 0 (mQi below args s D dA o A post) (F0 m 56 ls [])) {v0 : Int64} {x1 : Int32} {x2 : Int32} {x3 : Int32} {x4 : Int32} {S : MS} (h : M_holes_w100 post T32 T56 v0 x1 x2 x3 x4 S) {H : Heap} {locs : List Loc} {ls : Array Slot} (hl : lv_has ls 7 [(0, .ref (o 0)), (1, .int x1), (2, .int x2), (3, .int x3), (4, .int x4)]) (w : mw D dA o A s S H locs) : W p l e rM_holes s m args below meth c H locs 0 0 (mQi below args s D dA o A post) (F0 m 100 ls [.long v0]) := by
  unfold M_holes_w100 at h
  obtain ⟨⟨hx, hb, hml, hown, hts⟩, hr, hlk, hA⟩ := id C
  refine lv_lstore (lv' := [(5, .long _), (0, .ref _), (1, .int _), (2, .int _), (3, .int _), (4, .int _)]) hx hb dX5_holes_100 hl (by decide) rfl (fun ls hl => ?_)
  refine lv_iload_n hx hb dX5_holes_102 rfl (lv_at hl 4 rfl) ?_
  refine lv_lload hx hb dX5_holes_103 (lv_at hl 0 rfl) ?_
  refine lv_lconst (v := 1) hx hb dX5_holes_105 (by decide) ?_
  refine W.lcmp hx hb dX5_holes_106 ?_
  obtain ⟨h1, h2⟩ := h
  refine lv_if_le (tgt := 114) hx hb dX5_holes_107 (by decide) (fun c1 => ?_) (fun c1 => ?_)
  · have h := h1 ((lg_cmp_le _ _).mp c1)
    refine lv_iconst (v := 0) hx hb dX5_holes_114 (by decide) ?_
    exact M_holes_a115 C hT32 hT56 h (lv_sub hl [1, 2, 3, 5, 0] rfl) w
  · have h := h2 (mt (lg_cmp_le _ _).mpr c1)
    refine lv_iconst (v := 1) hx hb dX5_holes_110 (by decide) ?_
    refine lv_goto (tgt := 115) hx hb dX5_holes_111 (by decide) ?_
    exact M_holes_a115 C hT32 hT56 h (lv_sub hl [1, 2, 3, 5, 0] rfl) w
def M_holes_w56 (post : Int32 → MS → Prop) (T32 : Int32 → Int32 → Int32 → Int32 → MS → Prop) (T56 : Int32 → Int32 → Int32 → Int32 → MS → Prop) (x1 : Int32) (x2 : Int32) (x3 : Int32) (x4 : Int32) (S : MS) : Prop :=
  M_reduce x2 S (fun (r1 : Int32) (S1 : MS) => ((¬ r1 = 0 → M_cell x2 x2 S1 (fun (r2 : Int64) (S2 : MS) => (((0 : Int64) ≤ r2 → M_cell x2 x2 S2 (fun (r3 : Int64) (S3 : MS) => M_holes_w100 post T32 T56 r3 x1 x2 x3 x4 S3)) ∧ (¬ (0 : Int64) ≤ r2 → M_cell x2 x2 S2 (fun (r4 : Int64) (S4 : MS) => M_holes_w100 post T32 T56 (-r4) x1 x2 x3 x4 S4))))) ∧ (r1 = 0 → M_bring x2 S1 (fun (r5 : Int32) (S5 : MS) => T56 x1 x2 x3 x4 S5))))
set_option maxHeartbeats 4000000 in
set_option maxRecDepth 100000 in
theorem M_holes_a56 {p : Program} {l : Launch} {e : Env} {s : State} {m : MethodId} {args : Array Value} {below : List Frame} {meth : Method} {c : Code} {D : va_G} {dA : Nat → ClassId} {o : Nat → Nat} {A : Nat → Prop} {post : Int32 → MS → Prop} {T32 : Int32 → Int32 → Int32 → Int32 → MS → Prop} {T56 : Int32 → Int32 → Int32 → Int32 → MS → Prop} (C : mC p m c cX5_holes 7 s args meth (Option.some Jvm.ClassFile.FieldType.int) A) (hT32 : ∀ (x1 : Int32) (x2 : Int32) (x3 : Int32) (x4 : Int32) (S : MS), T32 x1 x2 x3 x4 S → ∀ (H : Heap) (locs : List Loc) (ls : Array Slot), lv_has ls 7 [(0, .ref (o 0)), (1, .int x1), (2, .int x2), (3, .int x3), (4, .int x4)] → mw D dA o A s S H locs → W p l e rM_holes s m args below meth c H locs 0 0 (mQi below args s D dA o A post) (F0 m 32 ls [])) (hT56 : ∀ (x1 : Int32) (x2 : Int32) (x3 : Int32) (x4 : Int32) (S : MS), T56 x1 x2 x3 x4 S → ∀ (H : Heap) (locs : List Loc) (ls : Array Slot), lv_has ls 7 [(0, .ref (o 0)), (1, .int x1), (2, .int x2), (3, .int x3), (4, .int x4)] → mw D dA o A s S H locs → W p l e rM_holes s m args below meth c H locs 0 0 (mQi below args s D dA o A post) (F0 m 56 ls [])) {x1 : Int32} {x2 : Int32} {x3 : Int32} {x4 : Int32} {S : MS} (h : M_holes_w56 post T32 T56 x1 x2 x3 x4 S) {H : Heap} {locs : List Loc} {ls : Array Slot} (hl : lv_has ls 7 [(0, .ref (o 0)), (1, .int x1), (2, .int x2), (3, .int x3), (4, .int x4)]) (w : mw D dA o A s S H locs) : W p l e rM_holes s m args below meth c H locs 0 0 (mQi below args s D dA o A post) (F0 m 56 ls []) := by
  unfold M_holes_w56 at h
  obtain ⟨⟨hx, hb, hml, hown, hts⟩, hr, hlk, hA⟩ := id C
  refine lv_aload_n hx hb dX5_holes_56 rfl (lv_at hl 0 rfl) ?_
  refine lv_iload_n hx hb dX5_holes_57 rfl (lv_at hl 2 rfl) ?_
  refine mr_callVI (rest := []) C w h (lw_V q812 q814 qs61 q87 q815) M_reduce_d rfl rfl ⟨Nat.le_of_ble_eq_true rfl, Nat.le_of_ble_eq_true rfl⟩ rfl hl.1 rfl (Nat.le_of_ble_eq_true rfl) ⟨Nat.zero_le _, Nat.zero_le _⟩ dX5_holes_58 (fun r1 S1 H locs h w => ?_)
  obtain ⟨h1, h2⟩ := h
  refine lv_if_ne (tgt := 73) hx hb dX5_holes_61 (by decide) (fun c1 => ?_) (fun c1 => ?_)
  · have h := h1 c1
    refine lv_aload_n hx hb dX5_holes_73 rfl (lv_at hl 0 rfl) ?_
    refine lv_iload_n hx hb dX5_holes_74 rfl (lv_at hl 2 rfl) ?_
    refine lv_iload_n hx hb dX5_holes_75 rfl (lv_at hl 2 rfl) ?_
    refine mr_callVL (rest := []) C w h (lw_V q808 q810 qs60 q87 q811) M_cell_d rfl rfl ⟨Nat.le_of_ble_eq_true rfl, Nat.le_of_ble_eq_true rfl⟩ rfl hl.1 rfl (Nat.le_of_ble_eq_true rfl) ⟨Nat.zero_le _, Nat.zero_le _⟩ dX5_holes_76 (fun r2 S2 H locs h w => ?_)
    refine lv_lconst (v := 0) hx hb dX5_holes_79 (by decide) ?_
    refine W.lcmp hx hb dX5_holes_80 ?_
    obtain ⟨h1, h2⟩ := h
    refine lv_if_ge (tgt := 94) hx hb dX5_holes_81 (by decide) (fun c1 => ?_) (fun c1 => ?_)
    · have h := h1 ((lg_cmp_ge _ _).mp c1)
      refine lv_aload_n hx hb dX5_holes_94 rfl (lv_at hl 0 rfl) ?_
      refine lv_iload_n hx hb dX5_holes_95 rfl (lv_at hl 2 rfl) ?_
      refine lv_iload_n hx hb dX5_holes_96 rfl (lv_at hl 2 rfl) ?_
      refine mr_callVL (rest := []) C w h (lw_V q808 q810 qs60 q87 q811) M_cell_d rfl rfl ⟨Nat.le_of_ble_eq_true rfl, Nat.le_of_ble_eq_true rfl⟩ rfl hl.1 rfl (Nat.le_of_ble_eq_true rfl) ⟨Nat.zero_le _, Nat.zero_le _⟩ dX5_holes_97 (fun r3 S3 H locs h w => ?_)
      exact M_holes_a100 C hT32 hT56 h (lv_sub hl [0, 1, 2, 3, 4] rfl) w
    · have h := h2 (mt (lg_cmp_ge _ _).mpr c1)
      refine lv_aload_n hx hb dX5_holes_84 rfl (lv_at hl 0 rfl) ?_
      refine lv_iload_n hx hb dX5_holes_85 rfl (lv_at hl 2 rfl) ?_
      refine lv_iload_n hx hb dX5_holes_86 rfl (lv_at hl 2 rfl) ?_
      refine mr_callVL (rest := []) C w h (lw_V q808 q810 qs60 q87 q811) M_cell_d rfl rfl ⟨Nat.le_of_ble_eq_true rfl, Nat.le_of_ble_eq_true rfl⟩ rfl hl.1 rfl (Nat.le_of_ble_eq_true rfl) ⟨Nat.zero_le _, Nat.zero_le _⟩ dX5_holes_87 (fun r4 S4 H locs h w => ?_)
      refine lv_lneg hx hb dX5_holes_90 ?_
      refine lv_goto (tgt := 100) hx hb dX5_holes_91 (by decide) ?_
      exact M_holes_a100 C hT32 hT56 h (lv_sub hl [0, 1, 2, 3, 4] rfl) w
  · have h := h2 c1
    refine lv_aload_n hx hb dX5_holes_64 rfl (lv_at hl 0 rfl) ?_
    refine lv_iload_n hx hb dX5_holes_65 rfl (lv_at hl 2 rfl) ?_
    refine mr_callVI (rest := []) C w h (lw_V q804 q806 qs59 q87 q807) M_bring_d rfl rfl ⟨Nat.le_of_ble_eq_true rfl, Nat.le_of_ble_eq_true rfl⟩ rfl hl.1 rfl (Nat.le_of_ble_eq_true rfl) ⟨Nat.zero_le _, Nat.zero_le _⟩ dX5_holes_66 (fun r5 S5 H locs h w => ?_)
    refine lv_pop hx hb dX5_holes_69 rfl ?_
    refine lv_goto (tgt := 56) hx hb dX5_holes_70 (by decide) ?_
    exact hT56 _ _ _ _ _ h _ _ _ (lv_sub hl [0, 1, 2, 3, 4] rfl) w
def M_holes_w32 (post : Int32 → MS → Prop) (T32 : Int32 → Int32 → Int32 → Int32 → MS → Prop) (T56 : Int32 → Int32 → Int32 → Int32 → MS → Prop) (x1 : Int32) (x2 : Int32) (x3 : Int32) (x4 : Int32) (S : MS) : Prop :=
  (((gF S 11) ≤ x2 → M_holes_w145 post T32 T56 x1 x2 x4 S) ∧ (¬ (gF S 11) ≤ x2 → (((gF S 12) ≤ x2 → M_holes_w145 post T32 T56 x1 x2 x4 S) ∧ (¬ (gF S 12) ≤ x2 → M_bring x2 S (fun (r1 : Int32) (S1 : MS) => ((r1 = 0 → M_holes_w145 post T32 T56 x1 x2 x4 S1) ∧ (¬ r1 = 0 → T56 x1 x2 x3 x4 S1)))))))
set_option maxHeartbeats 4000000 in
set_option maxRecDepth 100000 in
theorem M_holes_a32 {p : Program} {l : Launch} {e : Env} {s : State} {m : MethodId} {args : Array Value} {below : List Frame} {meth : Method} {c : Code} {D : va_G} {dA : Nat → ClassId} {o : Nat → Nat} {A : Nat → Prop} {post : Int32 → MS → Prop} {T32 : Int32 → Int32 → Int32 → Int32 → MS → Prop} {T56 : Int32 → Int32 → Int32 → Int32 → MS → Prop} (C : mC p m c cX5_holes 7 s args meth (Option.some Jvm.ClassFile.FieldType.int) A) (hT32 : ∀ (x1 : Int32) (x2 : Int32) (x3 : Int32) (x4 : Int32) (S : MS), T32 x1 x2 x3 x4 S → ∀ (H : Heap) (locs : List Loc) (ls : Array Slot), lv_has ls 7 [(0, .ref (o 0)), (1, .int x1), (2, .int x2), (3, .int x3), (4, .int x4)] → mw D dA o A s S H locs → W p l e rM_holes s m args below meth c H locs 0 0 (mQi below args s D dA o A post) (F0 m 32 ls [])) (hT56 : ∀ (x1 : Int32) (x2 : Int32) (x3 : Int32) (x4 : Int32) (S : MS), T56 x1 x2 x3 x4 S → ∀ (H : Heap) (locs : List Loc) (ls : Array Slot), lv_has ls 7 [(0, .ref (o 0)), (1, .int x1), (2, .int x2), (3, .int x3), (4, .int x4)] → mw D dA o A s S H locs → W p l e rM_holes s m args below meth c H locs 0 0 (mQi below args s D dA o A post) (F0 m 56 ls [])) {x1 : Int32} {x2 : Int32} {x3 : Int32} {x4 : Int32} {S : MS} (h : M_holes_w32 post T32 T56 x1 x2 x3 x4 S) {H : Heap} {locs : List Loc} {ls : Array Slot} (hl : lv_has ls 7 [(0, .ref (o 0)), (1, .int x1), (2, .int x2), (3, .int x3), (4, .int x4)]) (w : mw D dA o A s S H locs) : W p l e rM_holes s m args below meth c H locs 0 0 (mQi below args s D dA o A post) (F0 m 32 ls []) := by
  unfold M_holes_w32 at h
  obtain ⟨⟨hx, hb, hml, hown, hts⟩, hr, hlk, hA⟩ := id C
  refine lv_iload_n hx hb dX5_holes_32 rfl (lv_at hl 2 rfl) ?_
  refine lv_aload_n hx hb dX5_holes_33 rfl (lv_at hl 0 rfl) ?_
  refine mr_get C w 11 (by decide) q588 rfl rfl dX5_holes_34 ?_
  obtain ⟨h1, h2⟩ := h
  refine lv_icmp_ge (tgt := 145) hx hb dX5_holes_37 (by decide) (fun c1 => ?_) (fun c1 => ?_)
  · have h := h1 c1
    exact M_holes_a145 C hT32 hT56 h (lv_sub hl [0, 1, 2, 4] rfl) w
  · have h := h2 c1
    refine lv_iload_n hx hb dX5_holes_40 rfl (lv_at hl 2 rfl) ?_
    refine lv_aload_n hx hb dX5_holes_41 rfl (lv_at hl 0 rfl) ?_
    refine mr_get C w 12 (by decide) q589 rfl rfl dX5_holes_42 ?_
    obtain ⟨h1, h2⟩ := h
    refine lv_icmp_ge (tgt := 145) hx hb dX5_holes_45 (by decide) (fun c1 => ?_) (fun c1 => ?_)
    · have h := h1 c1
      exact M_holes_a145 C hT32 hT56 h (lv_sub hl [0, 1, 2, 4] rfl) w
    · have h := h2 c1
      refine lv_aload_n hx hb dX5_holes_48 rfl (lv_at hl 0 rfl) ?_
      refine lv_iload_n hx hb dX5_holes_49 rfl (lv_at hl 2 rfl) ?_
      refine mr_callVI (rest := []) C w h (lw_V q804 q806 qs59 q87 q807) M_bring_d rfl rfl ⟨Nat.le_of_ble_eq_true rfl, Nat.le_of_ble_eq_true rfl⟩ rfl hl.1 rfl (Nat.le_of_ble_eq_true rfl) ⟨Nat.zero_le _, Nat.zero_le _⟩ dX5_holes_50 (fun r1 S1 H locs h w => ?_)
      obtain ⟨h1, h2⟩ := h
      refine lv_if_eq (tgt := 145) hx hb dX5_holes_53 (by decide) (fun c1 => ?_) (fun c1 => ?_)
      · have h := h1 c1
        exact M_holes_a145 C hT32 hT56 h (lv_sub hl [0, 1, 2, 4] rfl) w
      · have h := h2 c1
        exact hT56 _ _ _ _ _ h _ _ _ (lv_sub hl [0, 1, 2, 3, 4] rfl) w
def M_holes_w0 (post : Int32 → MS → Prop) (T32 : Int32 → Int32 → Int32 → Int32 → MS → Prop) (T56 : Int32 → Int32 → Int32 → Int32 → MS → Prop) (x1 : Int32) (S : MS) : Prop :=
  ((0 ≤ x1 → M_label S (fun (S1 : MS) => M_anyBent S1 (fun (r2 : Int32) (S2 : MS) => ((r2 = 0 → M_layLoops S2 (fun (S3 : MS) => T32 x1 (0 : Int32) (0 : Int32) (-1 : Int32) S3)) ∧ (¬ r2 = 0 → post (-3 : Int32) S2))))) ∧ (¬ 0 ≤ x1 → post (-2 : Int32) S))
set_option maxHeartbeats 4000000 in
set_option maxRecDepth 100000 in
theorem M_holes_a0 {p : Program} {l : Launch} {e : Env} {s : State} {m : MethodId} {args : Array Value} {below : List Frame} {meth : Method} {c : Code} {D : va_G} {dA : Nat → ClassId} {o : Nat → Nat} {A : Nat → Prop} {post : Int32 → MS → Prop} {T32 : Int32 → Int32 → Int32 → Int32 → MS → Prop} {T56 : Int32 → Int32 → Int32 → Int32 → MS → Prop} (C : mC p m c cX5_holes 7 s args meth (Option.some Jvm.ClassFile.FieldType.int) A) (hT32 : ∀ (x1 : Int32) (x2 : Int32) (x3 : Int32) (x4 : Int32) (S : MS), T32 x1 x2 x3 x4 S → ∀ (H : Heap) (locs : List Loc) (ls : Array Slot), lv_has ls 7 [(0, .ref (o 0)), (1, .int x1), (2, .int x2), (3, .int x3), (4, .int x4)] → mw D dA o A s S H locs → W p l e rM_holes s m args below meth c H locs 0 0 (mQi below args s D dA o A post) (F0 m 32 ls [])) (hT56 : ∀ (x1 : Int32) (x2 : Int32) (x3 : Int32) (x4 : Int32) (S : MS), T56 x1 x2 x3 x4 S → ∀ (H : Heap) (locs : List Loc) (ls : Array Slot), lv_has ls 7 [(0, .ref (o 0)), (1, .int x1), (2, .int x2), (3, .int x3), (4, .int x4)] → mw D dA o A s S H locs → W p l e rM_holes s m args below meth c H locs 0 0 (mQi below args s D dA o A post) (F0 m 56 ls [])) {x1 : Int32} {S : MS} (h : M_holes_w0 post T32 T56 x1 S) {H : Heap} {locs : List Loc} {ls : Array Slot} (hl : lv_has ls 7 [(0, .ref (o 0)), (1, .int x1)]) (w : mw D dA o A s S H locs) : W p l e rM_holes s m args below meth c H locs 0 0 (mQi below args s D dA o A post) (F0 m 0 ls []) := by
  unfold M_holes_w0 at h
  obtain ⟨⟨hx, hb, hml, hown, hts⟩, hr, hlk, hA⟩ := id C
  refine lv_iload_n hx hb dX5_holes_0 rfl (lv_at hl 1 rfl) ?_
  obtain ⟨h1, h2⟩ := h
  refine lv_if_ge (tgt := 7) hx hb dX5_holes_1 (by decide) (fun c1 => ?_) (fun c1 => ?_)
  · have h := h1 c1
    refine lv_aload_n hx hb dX5_holes_7 rfl (lv_at hl 0 rfl) ?_
    refine mr_callVV (rest := []) C w h (lw_V q695 q697 qs37 q87 q698) M_label_d rfl rfl ⟨Nat.le_of_ble_eq_true rfl, Nat.le_of_ble_eq_true rfl⟩ rfl hl.1 rfl (Nat.le_of_ble_eq_true rfl) ⟨Nat.zero_le _, Nat.zero_le _⟩ dX5_holes_8 (fun S1 H locs h w => ?_)
    refine lv_aload_n hx hb dX5_holes_11 rfl (lv_at hl 0 rfl) ?_
    refine mr_callVI (rest := []) C w h (lw_V q771 q773 qs52 q87 q774) M_anyBent_d rfl rfl ⟨Nat.le_of_ble_eq_true rfl, Nat.le_of_ble_eq_true rfl⟩ rfl hl.1 rfl (Nat.le_of_ble_eq_true rfl) ⟨Nat.zero_le _, Nat.zero_le _⟩ dX5_holes_12 (fun r2 S2 H locs h w => ?_)
    obtain ⟨h1, h2⟩ := h
    refine lv_if_eq (tgt := 21) hx hb dX5_holes_15 (by decide) (fun c1 => ?_) (fun c1 => ?_)
    · have h := h1 c1
      refine lv_aload_n hx hb dX5_holes_21 rfl (lv_at hl 0 rfl) ?_
      refine mr_callVV (rest := []) C w h (lw_V q791 q793 qs56 q87 q794) M_layLoops_d rfl rfl ⟨Nat.le_of_ble_eq_true rfl, Nat.le_of_ble_eq_true rfl⟩ rfl hl.1 rfl (Nat.le_of_ble_eq_true rfl) ⟨Nat.zero_le _, Nat.zero_le _⟩ dX5_holes_22 (fun S3 H locs h w => ?_)
      refine lv_iconst (v := 0) hx hb dX5_holes_25 (by decide) ?_
      refine lv_istore_n (lv' := [(2, .int _), (0, .ref _), (1, .int _)]) hx hb dX5_holes_26 rfl hl (by decide) rfl (fun ls hl => ?_)
      refine lv_iconst (v := 0) hx hb dX5_holes_27 (by decide) ?_
      refine lv_istore_n (lv' := [(3, .int _), (2, .int _), (0, .ref _), (1, .int _)]) hx hb dX5_holes_28 rfl hl (by decide) rfl (fun ls hl => ?_)
      refine lv_iconst (v := -1) hx hb dX5_holes_29 (by decide) ?_
      refine lv_istore (lv' := [(4, .int _), (3, .int _), (2, .int _), (0, .ref _), (1, .int _)]) hx hb dX5_holes_30 hl (by decide) rfl (fun ls hl => ?_)
      exact hT32 _ _ _ _ _ h _ _ _ (lv_sub hl [3, 4, 2, 1, 0] rfl) w
    · have h := h2 c1
      refine lv_bipush (v := -3) hx hb dX5_holes_18 (by decide) ?_
      exact mr_iret C w h dX5_holes_20
  · have h := h2 c1
    refine lv_bipush (v := -2) hx hb dX5_holes_4 (by decide) ?_
    exact mr_iret C w h dX5_holes_6
def M_holes_VC (x1 : Int32) (S : MS) (post : Int32 → MS → Prop) : Prop := ∀ (T32 : Int32 → Int32 → Int32 → Int32 → MS → Prop) (T56 : Int32 → Int32 → Int32 → Int32 → MS → Prop), (∀ (x1 : Int32) (x2 : Int32) (x3 : Int32) (x4 : Int32) (S : MS), M_holes_w32 post T32 T56 x1 x2 x3 x4 S → T32 x1 x2 x3 x4 S) → (∀ (x1 : Int32) (x2 : Int32) (x3 : Int32) (x4 : Int32) (S : MS), M_holes_w56 post T32 T56 x1 x2 x3 x4 S → T56 x1 x2 x3 x4 S) → M_holes_w0 post T32 T56 x1 S
theorem M_holes_ok {x1 : Int32} {S : MS} {post : Int32 → MS → Prop} (h : M_holes_VC x1 S post) : M_holes x1 S post := by
  intro l D dA o sz
  refine mr_start (fun A => va_Qi post (mB D dA o A) A) rfl (Nat.le_of_ble_eq_true rfl) (by decide) ?_
  intro p e s m args below meth c ls A C w hl
  have hl : lv_has ls 7 [(0, .ref (o 0)), (1, .int x1)] := hl
  have h := h (fun (x1 : Int32) (x2 : Int32) (x3 : Int32) (x4 : Int32) S => ∀ (H : Heap) (locs : List Loc) (ls : Array Slot), lv_has ls 7 [(0, .ref (o 0)), (1, .int x1), (2, .int x2), (3, .int x3), (4, .int x4)] → mw D dA o A s S H locs → W p l e rM_holes s m args below meth c H locs 0 0 (mQi below args s D dA o A post) (F0 m 32 ls [])) (fun (x1 : Int32) (x2 : Int32) (x3 : Int32) (x4 : Int32) S => ∀ (H : Heap) (locs : List Loc) (ls : Array Slot), lv_has ls 7 [(0, .ref (o 0)), (1, .int x1), (2, .int x2), (3, .int x3), (4, .int x4)] → mw D dA o A s S H locs → W p l e rM_holes s m args below meth c H locs 0 0 (mQi below args s D dA o A post) (F0 m 56 ls [])) (fun _ _ _ _ S h H locs ls hl w => M_holes_a32 C (fun _ _ _ _ _ h => h) (fun _ _ _ _ _ h => h) h hl w) (fun _ _ _ _ S h H locs ls hl w => M_holes_a56 C (fun _ _ _ _ _ h => h) (fun _ _ _ _ _ h => h) h hl w)
  exact M_holes_a0 C (fun _ _ _ _ _ h => h) (fun _ _ _ _ _ h => h) h (lv_sub hl [0, 1] rfl) w

/-! kindOf(II)I -/
def M_kindOf_w21 (post : Int32 → MS → Prop) (v0 : Int32) (S : MS) : Prop :=
  post v0 S
set_option maxHeartbeats 4000000 in
set_option maxRecDepth 100000 in
theorem M_kindOf_a21 {p : Program} {l : Launch} {e : Env} {s : State} {m : MethodId} {args : Array Value} {below : List Frame} {meth : Method} {c : Code} {D : va_G} {dA : Nat → ClassId} {o : Nat → Nat} {A : Nat → Prop} {post : Int32 → MS → Prop} (C : mC p m c cX5_kindOf 3 s args meth (Option.some Jvm.ClassFile.FieldType.int) A) {v0 : Int32} {S : MS} (h : M_kindOf_w21 post v0 S) {H : Heap} {locs : List Loc} {ls : Array Slot} (hl : lv_has ls 3 []) (w : mw D dA o A s S H locs) : W p l e rM_kindOf s m args below meth c H locs 0 0 (mQi below args s D dA o A post) (F0 m 21 ls [.int v0]) := by
  unfold M_kindOf_w21 at h
  obtain ⟨⟨hx, hb, hml, hown, hts⟩, hr, hlk, hA⟩ := id C
  exact mr_iret C w h dX5_kindOf_21
def M_kindOf_w12 (post : Int32 → MS → Prop) (x2 : Int32) (S : MS) : Prop :=
  M_kindOf_w21 post (x2 - (1 : Int32)) S
set_option maxHeartbeats 4000000 in
set_option maxRecDepth 100000 in
theorem M_kindOf_a12 {p : Program} {l : Launch} {e : Env} {s : State} {m : MethodId} {args : Array Value} {below : List Frame} {meth : Method} {c : Code} {D : va_G} {dA : Nat → ClassId} {o : Nat → Nat} {A : Nat → Prop} {post : Int32 → MS → Prop} (C : mC p m c cX5_kindOf 3 s args meth (Option.some Jvm.ClassFile.FieldType.int) A) {x2 : Int32} {S : MS} (h : M_kindOf_w12 post x2 S) {H : Heap} {locs : List Loc} {ls : Array Slot} (hl : lv_has ls 3 [(2, .int x2)]) (w : mw D dA o A s S H locs) : W p l e rM_kindOf s m args below meth c H locs 0 0 (mQi below args s D dA o A post) (F0 m 12 ls []) := by
  unfold M_kindOf_w12 at h
  obtain ⟨⟨hx, hb, hml, hown, hts⟩, hr, hlk, hA⟩ := id C
  refine lv_iload_n hx hb dX5_kindOf_12 rfl (lv_at hl 0 rfl) ?_
  refine lv_iconst (v := 1) hx hb dX5_kindOf_13 (by decide) ?_
  refine lv_isub hx hb dX5_kindOf_14 ?_
  refine lv_goto (tgt := 21) hx hb dX5_kindOf_15 (by decide) ?_
  exact M_kindOf_a21 C h (lv_sub hl [] rfl) w
def M_kindOf_w0 (post : Int32 → MS → Prop) (x0 : Int32) (x1 : Int32) (S : MS) : Prop :=
  ((x0 = 0 → M_kindOf_w12 post (x0 + x1) S) ∧ (¬ x0 = 0 → ((¬ x1 = 0 → M_kindOf_w21 post ((5 : Int32) - (x0 + x1)) S) ∧ (x1 = 0 → M_kindOf_w12 post (x0 + x1) S))))
set_option maxHeartbeats 4000000 in
set_option maxRecDepth 100000 in
theorem M_kindOf_a0 {p : Program} {l : Launch} {e : Env} {s : State} {m : MethodId} {args : Array Value} {below : List Frame} {meth : Method} {c : Code} {D : va_G} {dA : Nat → ClassId} {o : Nat → Nat} {A : Nat → Prop} {post : Int32 → MS → Prop} (C : mC p m c cX5_kindOf 3 s args meth (Option.some Jvm.ClassFile.FieldType.int) A) {x0 : Int32} {x1 : Int32} {S : MS} (h : M_kindOf_w0 post x0 x1 S) {H : Heap} {locs : List Loc} {ls : Array Slot} (hl : lv_has ls 3 [(0, .int x0), (1, .int x1)]) (w : mw D dA o A s S H locs) : W p l e rM_kindOf s m args below meth c H locs 0 0 (mQi below args s D dA o A post) (F0 m 0 ls []) := by
  unfold M_kindOf_w0 at h
  obtain ⟨⟨hx, hb, hml, hown, hts⟩, hr, hlk, hA⟩ := id C
  refine lv_iload_n hx hb dX5_kindOf_0 rfl (lv_at hl 0 rfl) ?_
  refine lv_iload_n hx hb dX5_kindOf_1 rfl (lv_at hl 1 rfl) ?_
  refine lv_iadd hx hb dX5_kindOf_2 ?_
  refine lv_istore_n (lv' := [(2, .int _), (0, .int _), (1, .int _)]) hx hb dX5_kindOf_3 rfl hl (by decide) rfl (fun ls hl => ?_)
  refine lv_iload_n hx hb dX5_kindOf_4 rfl (lv_at hl 1 rfl) ?_
  obtain ⟨h1, h2⟩ := h
  refine lv_if_eq (tgt := 12) hx hb dX5_kindOf_5 (by decide) (fun c1 => ?_) (fun c1 => ?_)
  · have h := h1 c1
    exact M_kindOf_a12 C h (lv_sub hl [0] rfl) w
  · have h := h2 c1
    refine lv_iload_n hx hb dX5_kindOf_8 rfl (lv_at hl 2 rfl) ?_
    obtain ⟨h1, h2⟩ := h
    refine lv_if_ne (tgt := 18) hx hb dX5_kindOf_9 (by decide) (fun c1 => ?_) (fun c1 => ?_)
    · have h := h1 c1
      refine lv_iconst (v := 5) hx hb dX5_kindOf_18 (by decide) ?_
      refine lv_iload_n hx hb dX5_kindOf_19 rfl (lv_at hl 0 rfl) ?_
      refine lv_isub hx hb dX5_kindOf_20 ?_
      exact M_kindOf_a21 C h (lv_sub hl [] rfl) w
    · have h := h2 c1
      exact M_kindOf_a12 C h (lv_sub hl [0] rfl) w
def M_kindOf_VC (x0 : Int32) (x1 : Int32) (S : MS) (post : Int32 → MS → Prop) : Prop := M_kindOf_w0 post x0 x1 S
theorem M_kindOf_ok {x0 : Int32} {x1 : Int32} {S : MS} {post : Int32 → MS → Prop} (h : M_kindOf_VC x0 x1 S post) : M_kindOf x0 x1 S post := by
  intro l D dA o sz
  refine mr_start (fun A => va_Qi post (mB D dA o A) A) rfl (Nat.le_of_ble_eq_true rfl) (by decide) ?_
  intro p e s m args below meth c ls A C w hl
  have hl : lv_has ls 3 [(0, .int x0), (1, .int x1)] := hl
  exact M_kindOf_a0 C h (lv_sub hl [0, 1] rfl) w

/-! layEquation(II)V -/
def M_layEquation_w29 (post : MS → Prop) (T29 : Int32 → Int32 → Int32 → Int32 → Int32 → Int32 → MS → Prop) (x1 : Int32) (x2 : Int32) (x3 : Int32) (x4 : Int32) (x5 : Int32) (x6 : Int32) (S : MS) : Prop :=
  (((21 : Int32) ≤ x6 → (vp_in (((7 : Int32) * x3) + x2) 21 ∧ (vp_in (((7 : Int32) * x3) + x2) 21 ∧ (fun (S1 : MS) => M_kindOf x2 (x1 - x1 / (4 : Int32) * (4 : Int32)) S1 (fun (r2 : Int32) (S2 : MS) => (vp_in ((((7 : Int32) * x3) + (4 : Int32)) + r2) 21 ∧ (vp_in ((((7 : Int32) * x3) + (4 : Int32)) + r2) 21 ∧ (fun (S3 : MS) => (vp_in (((7 : Int32) * x4) + x5) 21 ∧ (vp_in (((7 : Int32) * x4) + x5) 21 ∧ (fun (S4 : MS) => (vp_in x1 12 ∧ M_kindOf x5 ((gI S4 1 (x1).toNatClampNeg) - (gI S4 1 (x1).toNatClampNeg) / (4 : Int32) * (4 : Int32)) S4 (fun (r5 : Int32) (S5 : MS) => (vp_in ((((7 : Int32) * x4) + (4 : Int32)) + r5) 21 ∧ (vp_in ((((7 : Int32) * x4) + (4 : Int32)) + r5) 21 ∧ (fun (S6 : MS) => post S6) (sI S5 17 (((((7 : Int32) * x4) + (4 : Int32)) + r5)).toNatClampNeg ((gI S5 17 (((((7 : Int32) * x4) + (4 : Int32)) + r5)).toNatClampNeg) - (1 : Int32)))))))) (sI S3 17 ((((7 : Int32) * x4) + x5)).toNatClampNeg ((gI S3 17 ((((7 : Int32) * x4) + x5)).toNatClampNeg) - (1 : Int32)))))) (sI S2 17 (((((7 : Int32) * x3) + (4 : Int32)) + r2)).toNatClampNeg ((gI S2 17 (((((7 : Int32) * x3) + (4 : Int32)) + r2)).toNatClampNeg) + (1 : Int32))))))) (sI S 17 ((((7 : Int32) * x3) + x2)).toNatClampNeg ((gI S 17 ((((7 : Int32) * x3) + x2)).toNatClampNeg) + (1 : Int32)))))) ∧ (¬ (21 : Int32) ≤ x6 → (vp_in x6 21 ∧ (fun (S7 : MS) => T29 x1 x2 x3 x4 x5 (x6 + (1 : Int32)) S7) (sI S 17 (x6).toNatClampNeg (0 : Int32)))))
set_option maxHeartbeats 4000000 in
set_option maxRecDepth 100000 in
theorem M_layEquation_a29 {p : Program} {l : Launch} {e : Env} {s : State} {m : MethodId} {args : Array Value} {below : List Frame} {meth : Method} {c : Code} {D : va_G} {dA : Nat → ClassId} {o : Nat → Nat} {A : Nat → Prop} {post : MS → Prop} {T29 : Int32 → Int32 → Int32 → Int32 → Int32 → Int32 → MS → Prop} (C : mC p m c cX5_layEquation 7 s args meth (Option.none : Option Jvm.ClassFile.FieldType) A) (hT29 : ∀ (x1 : Int32) (x2 : Int32) (x3 : Int32) (x4 : Int32) (x5 : Int32) (x6 : Int32) (S : MS), T29 x1 x2 x3 x4 x5 x6 S → ∀ (H : Heap) (locs : List Loc) (ls : Array Slot), lv_has ls 7 [(0, .ref (o 0)), (1, .int x1), (2, .int x2), (3, .int x3), (4, .int x4), (5, .int x5), (6, .int x6)] → mw D dA o A s S H locs → W p l e rM_layEquation s m args below meth c H locs 0 0 (mQv below args s D dA o A post) (F0 m 29 ls [])) {x1 : Int32} {x2 : Int32} {x3 : Int32} {x4 : Int32} {x5 : Int32} {x6 : Int32} {S : MS} (h : M_layEquation_w29 post T29 x1 x2 x3 x4 x5 x6 S) {H : Heap} {locs : List Loc} {ls : Array Slot} (hl : lv_has ls 7 [(0, .ref (o 0)), (1, .int x1), (2, .int x2), (3, .int x3), (4, .int x4), (5, .int x5), (6, .int x6)]) (w : mw D dA o A s S H locs) : W p l e rM_layEquation s m args below meth c H locs 0 0 (mQv below args s D dA o A post) (F0 m 29 ls []) := by
  unfold M_layEquation_w29 at h
  obtain ⟨⟨hx, hb, hml, hown, hts⟩, hr, hlk, hA⟩ := id C
  refine lv_iload hx hb dX5_layEquation_29 (lv_at hl 6 rfl) ?_
  refine lv_bipush (v := 21) hx hb dX5_layEquation_31 (by decide) ?_
  obtain ⟨h1, h2⟩ := h
  refine lv_icmp_ge (tgt := 50) hx hb dX5_layEquation_33 (by decide) (fun c1 => ?_) (fun c1 => ?_)
  · have h := h1 c1
    refine lv_aload_n hx hb dX5_layEquation_50 rfl (lv_at hl 0 rfl) ?_
    refine mr_get C w 17 (by decide) q594 rfl rfl dX5_layEquation_51 ?_
    refine lv_bipush (v := 7) hx hb dX5_layEquation_54 (by decide) ?_
    refine lv_iload_n hx hb dX5_layEquation_56 rfl (lv_at hl 3 rfl) ?_
    refine lv_imul hx hb dX5_layEquation_57 ?_
    refine lv_iload_n hx hb dX5_layEquation_58 rfl (lv_at hl 2 rfl) ?_
    refine lv_iadd hx hb dX5_layEquation_59 ?_
    refine lv_dup2_11 hx hb dX5_layEquation_60 rfl rfl ?_
    obtain ⟨hi, h⟩ := h
    refine mr_iald C w 13 12 rfl rfl hi dX5_layEquation_61 ?_
    refine lv_iconst (v := 1) hx hb dX5_layEquation_62 (by decide) ?_
    refine lv_iadd hx hb dX5_layEquation_63 ?_
    obtain ⟨hi, h⟩ := h
    refine mr_iast C w 13 12 rfl rfl hi MWs_17 dX5_layEquation_64 (fun H locs w => ?_)
    refine lv_aload_n hx hb dX5_layEquation_65 rfl (lv_at hl 0 rfl) ?_
    refine mr_get C w 17 (by decide) q594 rfl rfl dX5_layEquation_66 ?_
    refine lv_bipush (v := 7) hx hb dX5_layEquation_69 (by decide) ?_
    refine lv_iload_n hx hb dX5_layEquation_71 rfl (lv_at hl 3 rfl) ?_
    refine lv_imul hx hb dX5_layEquation_72 ?_
    refine lv_iconst (v := 4) hx hb dX5_layEquation_73 (by decide) ?_
    refine lv_iadd hx hb dX5_layEquation_74 ?_
    refine lv_iload_n hx hb dX5_layEquation_75 rfl (lv_at hl 2 rfl) ?_
    refine lv_iload_n hx hb dX5_layEquation_76 rfl (lv_at hl 1 rfl) ?_
    refine lv_iconst (v := 4) hx hb dX5_layEquation_77 (by decide) ?_
    refine lv_irem hx hb dX5_layEquation_78 (by decide) ?_
    refine mr_callSI (rest := [.int _, .ref _]) C w h (lw_S q828 q829 q87 q830) M_kindOf_d rfl rfl ⟨Nat.le_of_ble_eq_true rfl, Nat.le_of_ble_eq_true rfl⟩ rfl hl.1 rfl (Nat.le_of_ble_eq_true rfl) ⟨Nat.zero_le _, Nat.zero_le _⟩ dX5_layEquation_79 (fun r2 S2 H locs h w => ?_)
    refine lv_iadd hx hb dX5_layEquation_82 ?_
    refine lv_dup2_11 hx hb dX5_layEquation_83 rfl rfl ?_
    obtain ⟨hi, h⟩ := h
    refine mr_iald C w 13 12 rfl rfl hi dX5_layEquation_84 ?_
    refine lv_iconst (v := 1) hx hb dX5_layEquation_85 (by decide) ?_
    refine lv_iadd hx hb dX5_layEquation_86 ?_
    obtain ⟨hi, h⟩ := h
    refine mr_iast C w 13 12 rfl rfl hi MWs_17 dX5_layEquation_87 (fun H locs w => ?_)
    refine lv_aload_n hx hb dX5_layEquation_88 rfl (lv_at hl 0 rfl) ?_
    refine mr_get C w 17 (by decide) q594 rfl rfl dX5_layEquation_89 ?_
    refine lv_bipush (v := 7) hx hb dX5_layEquation_92 (by decide) ?_
    refine lv_iload hx hb dX5_layEquation_94 (lv_at hl 4 rfl) ?_
    refine lv_imul hx hb dX5_layEquation_96 ?_
    refine lv_iload hx hb dX5_layEquation_97 (lv_at hl 5 rfl) ?_
    refine lv_iadd hx hb dX5_layEquation_99 ?_
    refine lv_dup2_11 hx hb dX5_layEquation_100 rfl rfl ?_
    obtain ⟨hi, h⟩ := h
    refine mr_iald C w 13 12 rfl rfl hi dX5_layEquation_101 ?_
    refine lv_iconst (v := 1) hx hb dX5_layEquation_102 (by decide) ?_
    refine lv_isub hx hb dX5_layEquation_103 ?_
    obtain ⟨hi, h⟩ := h
    refine mr_iast C w 13 12 rfl rfl hi MWs_17 dX5_layEquation_104 (fun H locs w => ?_)
    refine lv_aload_n hx hb dX5_layEquation_105 rfl (lv_at hl 0 rfl) ?_
    refine mr_get C w 17 (by decide) q594 rfl rfl dX5_layEquation_106 ?_
    refine lv_bipush (v := 7) hx hb dX5_layEquation_109 (by decide) ?_
    refine lv_iload hx hb dX5_layEquation_111 (lv_at hl 4 rfl) ?_
    refine lv_imul hx hb dX5_layEquation_113 ?_
    refine lv_iconst (v := 4) hx hb dX5_layEquation_114 (by decide) ?_
    refine lv_iadd hx hb dX5_layEquation_115 ?_
    refine lv_iload hx hb dX5_layEquation_116 (lv_at hl 5 rfl) ?_
    refine lv_aload_n hx hb dX5_layEquation_118 rfl (lv_at hl 0 rfl) ?_
    refine mr_get C w 1 (by decide) q578 rfl rfl dX5_layEquation_119 ?_
    refine lv_iload_n hx hb dX5_layEquation_122 rfl (lv_at hl 1 rfl) ?_
    obtain ⟨hi, h⟩ := h
    refine mr_iald C w 1 0 rfl rfl hi dX5_layEquation_123 ?_
    refine lv_iconst (v := 4) hx hb dX5_layEquation_124 (by decide) ?_
    refine lv_irem hx hb dX5_layEquation_125 (by decide) ?_
    refine mr_callSI (rest := [.int _, .ref _]) C w h (lw_S q828 q829 q87 q830) M_kindOf_d rfl rfl ⟨Nat.le_of_ble_eq_true rfl, Nat.le_of_ble_eq_true rfl⟩ rfl hl.1 rfl (Nat.le_of_ble_eq_true rfl) ⟨Nat.zero_le _, Nat.zero_le _⟩ dX5_layEquation_126 (fun r5 S5 H locs h w => ?_)
    refine lv_iadd hx hb dX5_layEquation_129 ?_
    refine lv_dup2_11 hx hb dX5_layEquation_130 rfl rfl ?_
    obtain ⟨hi, h⟩ := h
    refine mr_iald C w 13 12 rfl rfl hi dX5_layEquation_131 ?_
    refine lv_iconst (v := 1) hx hb dX5_layEquation_132 (by decide) ?_
    refine lv_isub hx hb dX5_layEquation_133 ?_
    obtain ⟨hi, h⟩ := h
    refine mr_iast C w 13 12 rfl rfl hi MWs_17 dX5_layEquation_134 (fun H locs w => ?_)
    exact mr_vret C w h dX5_layEquation_135
  · have h := h2 c1
    refine lv_aload_n hx hb dX5_layEquation_36 rfl (lv_at hl 0 rfl) ?_
    refine mr_get C w 17 (by decide) q594 rfl rfl dX5_layEquation_37 ?_
    refine lv_iload hx hb dX5_layEquation_40 (lv_at hl 6 rfl) ?_
    refine lv_iconst (v := 0) hx hb dX5_layEquation_42 (by decide) ?_
    obtain ⟨hi, h⟩ := h
    refine mr_iast C w 13 12 rfl rfl hi MWs_17 dX5_layEquation_43 (fun H locs w => ?_)
    refine lv_iinc (v := _ + (1 : Int32)) (lv' := [(6, .int _), (0, .ref _), (1, .int _), (2, .int _), (3, .int _), (4, .int _), (5, .int _)]) hx hb dX5_layEquation_44 hl (k := 6) rfl rfl (by decide) rfl (fun ls hl => ?_)
    refine lv_goto (tgt := 29) hx hb dX5_layEquation_47 (by decide) ?_
    exact hT29 _ _ _ _ _ _ _ h _ _ _ (lv_sub hl [1, 2, 3, 4, 5, 6, 0] rfl) w
def M_layEquation_w0 (post : MS → Prop) (T29 : Int32 → Int32 → Int32 → Int32 → Int32 → Int32 → MS → Prop) (x1 : Int32) (x2 : Int32) (S : MS) : Prop :=
  (vp_in x1 12 ∧ (vp_in (((4 : Int32) * x1) + x2) 48 ∧ T29 x1 x2 (x1 / (4 : Int32)) ((gI S 1 (x1).toNatClampNeg) / (4 : Int32)) (gI S 2 ((((4 : Int32) * x1) + x2)).toNatClampNeg) (0 : Int32) S))
set_option maxHeartbeats 4000000 in
set_option maxRecDepth 100000 in
theorem M_layEquation_a0 {p : Program} {l : Launch} {e : Env} {s : State} {m : MethodId} {args : Array Value} {below : List Frame} {meth : Method} {c : Code} {D : va_G} {dA : Nat → ClassId} {o : Nat → Nat} {A : Nat → Prop} {post : MS → Prop} {T29 : Int32 → Int32 → Int32 → Int32 → Int32 → Int32 → MS → Prop} (C : mC p m c cX5_layEquation 7 s args meth (Option.none : Option Jvm.ClassFile.FieldType) A) (hT29 : ∀ (x1 : Int32) (x2 : Int32) (x3 : Int32) (x4 : Int32) (x5 : Int32) (x6 : Int32) (S : MS), T29 x1 x2 x3 x4 x5 x6 S → ∀ (H : Heap) (locs : List Loc) (ls : Array Slot), lv_has ls 7 [(0, .ref (o 0)), (1, .int x1), (2, .int x2), (3, .int x3), (4, .int x4), (5, .int x5), (6, .int x6)] → mw D dA o A s S H locs → W p l e rM_layEquation s m args below meth c H locs 0 0 (mQv below args s D dA o A post) (F0 m 29 ls [])) {x1 : Int32} {x2 : Int32} {S : MS} (h : M_layEquation_w0 post T29 x1 x2 S) {H : Heap} {locs : List Loc} {ls : Array Slot} (hl : lv_has ls 7 [(0, .ref (o 0)), (1, .int x1), (2, .int x2)]) (w : mw D dA o A s S H locs) : W p l e rM_layEquation s m args below meth c H locs 0 0 (mQv below args s D dA o A post) (F0 m 0 ls []) := by
  unfold M_layEquation_w0 at h
  obtain ⟨⟨hx, hb, hml, hown, hts⟩, hr, hlk, hA⟩ := id C
  refine lv_iload_n hx hb dX5_layEquation_0 rfl (lv_at hl 1 rfl) ?_
  refine lv_iconst (v := 4) hx hb dX5_layEquation_1 (by decide) ?_
  refine lv_idiv hx hb dX5_layEquation_2 (by decide) ?_
  refine lv_istore_n (lv' := [(3, .int _), (0, .ref _), (1, .int _), (2, .int _)]) hx hb dX5_layEquation_3 rfl hl (by decide) rfl (fun ls hl => ?_)
  refine lv_aload_n hx hb dX5_layEquation_4 rfl (lv_at hl 1 rfl) ?_
  refine mr_get C w 1 (by decide) q578 rfl rfl dX5_layEquation_5 ?_
  refine lv_iload_n hx hb dX5_layEquation_8 rfl (lv_at hl 2 rfl) ?_
  obtain ⟨hi, h⟩ := h
  refine mr_iald C w 1 0 rfl rfl hi dX5_layEquation_9 ?_
  refine lv_iconst (v := 4) hx hb dX5_layEquation_10 (by decide) ?_
  refine lv_idiv hx hb dX5_layEquation_11 (by decide) ?_
  refine lv_istore (lv' := [(4, .int _), (3, .int _), (0, .ref _), (1, .int _), (2, .int _)]) hx hb dX5_layEquation_12 hl (by decide) rfl (fun ls hl => ?_)
  refine lv_aload_n hx hb dX5_layEquation_14 rfl (lv_at hl 2 rfl) ?_
  refine mr_get C w 2 (by decide) q579 rfl rfl dX5_layEquation_15 ?_
  refine lv_iconst (v := 4) hx hb dX5_layEquation_18 (by decide) ?_
  refine lv_iload_n hx hb dX5_layEquation_19 rfl (lv_at hl 3 rfl) ?_
  refine lv_imul hx hb dX5_layEquation_20 ?_
  refine lv_iload_n hx hb dX5_layEquation_21 rfl (lv_at hl 4 rfl) ?_
  refine lv_iadd hx hb dX5_layEquation_22 ?_
  obtain ⟨hi, h⟩ := h
  refine mr_iald C w 2 1 rfl rfl hi dX5_layEquation_23 ?_
  refine lv_istore (lv' := [(5, .int _), (4, .int _), (3, .int _), (0, .ref _), (1, .int _), (2, .int _)]) hx hb dX5_layEquation_24 hl (by decide) rfl (fun ls hl => ?_)
  refine lv_iconst (v := 0) hx hb dX5_layEquation_26 (by decide) ?_
  refine lv_istore (lv' := [(6, .int _), (5, .int _), (4, .int _), (3, .int _), (0, .ref _), (1, .int _), (2, .int _)]) hx hb dX5_layEquation_27 hl (by decide) rfl (fun ls hl => ?_)
  exact hT29 _ _ _ _ _ _ _ h _ _ _ (lv_sub hl [4, 5, 6, 3, 2, 1, 0] rfl) w
def M_layEquation_VC (x1 : Int32) (x2 : Int32) (S : MS) (post : MS → Prop) : Prop := ∀ (T29 : Int32 → Int32 → Int32 → Int32 → Int32 → Int32 → MS → Prop), (∀ (x1 : Int32) (x2 : Int32) (x3 : Int32) (x4 : Int32) (x5 : Int32) (x6 : Int32) (S : MS), M_layEquation_w29 post T29 x1 x2 x3 x4 x5 x6 S → T29 x1 x2 x3 x4 x5 x6 S) → M_layEquation_w0 post T29 x1 x2 S
theorem M_layEquation_ok {x1 : Int32} {x2 : Int32} {S : MS} {post : MS → Prop} (h : M_layEquation_VC x1 x2 S post) : M_layEquation x1 x2 S post := by
  intro l D dA o sz
  refine mr_start (fun A => va_Qv post (mB D dA o A) A) rfl (Nat.le_of_ble_eq_true rfl) (by decide) ?_
  intro p e s m args below meth c ls A C w hl
  have hl : lv_has ls 7 [(0, .ref (o 0)), (1, .int x1), (2, .int x2)] := hl
  have h := h (fun (x1 : Int32) (x2 : Int32) (x3 : Int32) (x4 : Int32) (x5 : Int32) (x6 : Int32) S => ∀ (H : Heap) (locs : List Loc) (ls : Array Slot), lv_has ls 7 [(0, .ref (o 0)), (1, .int x1), (2, .int x2), (3, .int x3), (4, .int x4), (5, .int x5), (6, .int x6)] → mw D dA o A s S H locs → W p l e rM_layEquation s m args below meth c H locs 0 0 (mQv below args s D dA o A post) (F0 m 29 ls [])) (fun _ _ _ _ _ _ S h H locs ls hl w => M_layEquation_a29 C (fun _ _ _ _ _ _ _ h => h) h hl w)
  exact M_layEquation_a0 C (fun _ _ _ _ _ _ _ h => h) h (lv_sub hl [0, 1, 2] rfl) w

/-! side(I)I -/
def M_side_w4 (post : Int32 → MS → Prop) (T4 : Int32 → Int32 → Int32 → MS → Prop) (x1 : Int32) (x2 : Int32) (x3 : Int32) (S : MS) : Prop :=
  ((((7 : Int32) * (gF S 0)) ≤ x3 → post x2 S) ∧ (¬ ((7 : Int32) * (gF S 0)) ≤ x3 → (vp_in x3 21 ∧ (vp_in (((21 : Int32) * x1) + x3) 42000 ∧ T4 x1 (x2 + ((gI S 17 (x3).toNatClampNeg) * (gI S 15 ((((21 : Int32) * x1) + x3)).toNatClampNeg))) (x3 + (1 : Int32)) S))))
set_option maxHeartbeats 4000000 in
set_option maxRecDepth 100000 in
theorem M_side_a4 {p : Program} {l : Launch} {e : Env} {s : State} {m : MethodId} {args : Array Value} {below : List Frame} {meth : Method} {c : Code} {D : va_G} {dA : Nat → ClassId} {o : Nat → Nat} {A : Nat → Prop} {post : Int32 → MS → Prop} {T4 : Int32 → Int32 → Int32 → MS → Prop} (C : mC p m c cX5_side 4 s args meth (Option.some Jvm.ClassFile.FieldType.int) A) (hT4 : ∀ (x1 : Int32) (x2 : Int32) (x3 : Int32) (S : MS), T4 x1 x2 x3 S → ∀ (H : Heap) (locs : List Loc) (ls : Array Slot), lv_has ls 4 [(0, .ref (o 0)), (1, .int x1), (2, .int x2), (3, .int x3)] → mw D dA o A s S H locs → W p l e rM_side s m args below meth c H locs 0 0 (mQi below args s D dA o A post) (F0 m 4 ls [])) {x1 : Int32} {x2 : Int32} {x3 : Int32} {S : MS} (h : M_side_w4 post T4 x1 x2 x3 S) {H : Heap} {locs : List Loc} {ls : Array Slot} (hl : lv_has ls 4 [(0, .ref (o 0)), (1, .int x1), (2, .int x2), (3, .int x3)]) (w : mw D dA o A s S H locs) : W p l e rM_side s m args below meth c H locs 0 0 (mQi below args s D dA o A post) (F0 m 4 ls []) := by
  unfold M_side_w4 at h
  obtain ⟨⟨hx, hb, hml, hown, hts⟩, hr, hlk, hA⟩ := id C
  refine lv_iload_n hx hb dX5_side_4 rfl (lv_at hl 3 rfl) ?_
  refine lv_bipush (v := 7) hx hb dX5_side_5 (by decide) ?_
  refine lv_aload_n hx hb dX5_side_7 rfl (lv_at hl 0 rfl) ?_
  refine mr_get C w 0 (by decide) q577 rfl rfl dX5_side_8 ?_
  refine lv_imul hx hb dX5_side_11 ?_
  obtain ⟨h1, h2⟩ := h
  refine lv_icmp_ge (tgt := 42) hx hb dX5_side_12 (by decide) (fun c1 => ?_) (fun c1 => ?_)
  · have h := h1 c1
    refine lv_iload_n hx hb dX5_side_42 rfl (lv_at hl 2 rfl) ?_
    exact mr_iret C w h dX5_side_43
  · have h := h2 c1
    refine lv_iload_n hx hb dX5_side_15 rfl (lv_at hl 2 rfl) ?_
    refine lv_aload_n hx hb dX5_side_16 rfl (lv_at hl 0 rfl) ?_
    refine mr_get C w 17 (by decide) q594 rfl rfl dX5_side_17 ?_
    refine lv_iload_n hx hb dX5_side_20 rfl (lv_at hl 3 rfl) ?_
    obtain ⟨hi, h⟩ := h
    refine mr_iald C w 13 12 rfl rfl hi dX5_side_21 ?_
    refine lv_aload_n hx hb dX5_side_22 rfl (lv_at hl 0 rfl) ?_
    refine mr_get C w 15 (by decide) q592 rfl rfl dX5_side_23 ?_
    refine lv_bipush (v := 21) hx hb dX5_side_26 (by decide) ?_
    refine lv_iload_n hx hb dX5_side_28 rfl (lv_at hl 1 rfl) ?_
    refine lv_imul hx hb dX5_side_29 ?_
    refine lv_iload_n hx hb dX5_side_30 rfl (lv_at hl 3 rfl) ?_
    refine lv_iadd hx hb dX5_side_31 ?_
    obtain ⟨hi, h⟩ := h
    refine mr_iald C w 11 10 rfl rfl hi dX5_side_32 ?_
    refine lv_imul hx hb dX5_side_33 ?_
    refine lv_iadd hx hb dX5_side_34 ?_
    refine lv_istore_n (lv' := [(2, .int _), (0, .ref _), (1, .int _), (3, .int _)]) hx hb dX5_side_35 rfl hl (by decide) rfl (fun ls hl => ?_)
    refine lv_iinc (v := _ + (1 : Int32)) (lv' := [(3, .int _), (2, .int _), (0, .ref _), (1, .int _)]) hx hb dX5_side_36 hl (k := 3) rfl rfl (by decide) rfl (fun ls hl => ?_)
    refine lv_goto (tgt := 4) hx hb dX5_side_39 (by decide) ?_
    exact hT4 _ _ _ _ h _ _ _ (lv_sub hl [2, 3, 1, 0] rfl) w
def M_side_w0 (post : Int32 → MS → Prop) (T4 : Int32 → Int32 → Int32 → MS → Prop) (x1 : Int32) (S : MS) : Prop :=
  T4 x1 (0 : Int32) (0 : Int32) S
set_option maxHeartbeats 4000000 in
set_option maxRecDepth 100000 in
theorem M_side_a0 {p : Program} {l : Launch} {e : Env} {s : State} {m : MethodId} {args : Array Value} {below : List Frame} {meth : Method} {c : Code} {D : va_G} {dA : Nat → ClassId} {o : Nat → Nat} {A : Nat → Prop} {post : Int32 → MS → Prop} {T4 : Int32 → Int32 → Int32 → MS → Prop} (C : mC p m c cX5_side 4 s args meth (Option.some Jvm.ClassFile.FieldType.int) A) (hT4 : ∀ (x1 : Int32) (x2 : Int32) (x3 : Int32) (S : MS), T4 x1 x2 x3 S → ∀ (H : Heap) (locs : List Loc) (ls : Array Slot), lv_has ls 4 [(0, .ref (o 0)), (1, .int x1), (2, .int x2), (3, .int x3)] → mw D dA o A s S H locs → W p l e rM_side s m args below meth c H locs 0 0 (mQi below args s D dA o A post) (F0 m 4 ls [])) {x1 : Int32} {S : MS} (h : M_side_w0 post T4 x1 S) {H : Heap} {locs : List Loc} {ls : Array Slot} (hl : lv_has ls 4 [(0, .ref (o 0)), (1, .int x1)]) (w : mw D dA o A s S H locs) : W p l e rM_side s m args below meth c H locs 0 0 (mQi below args s D dA o A post) (F0 m 0 ls []) := by
  unfold M_side_w0 at h
  obtain ⟨⟨hx, hb, hml, hown, hts⟩, hr, hlk, hA⟩ := id C
  refine lv_iconst (v := 0) hx hb dX5_side_0 (by decide) ?_
  refine lv_istore_n (lv' := [(2, .int _), (0, .ref _), (1, .int _)]) hx hb dX5_side_1 rfl hl (by decide) rfl (fun ls hl => ?_)
  refine lv_iconst (v := 0) hx hb dX5_side_2 (by decide) ?_
  refine lv_istore_n (lv' := [(3, .int _), (2, .int _), (0, .ref _), (1, .int _)]) hx hb dX5_side_3 rfl hl (by decide) rfl (fun ls hl => ?_)
  exact hT4 _ _ _ _ h _ _ _ (lv_sub hl [2, 3, 1, 0] rfl) w
def M_side_VC (x1 : Int32) (S : MS) (post : Int32 → MS → Prop) : Prop := ∀ (T4 : Int32 → Int32 → Int32 → MS → Prop), (∀ (x1 : Int32) (x2 : Int32) (x3 : Int32) (S : MS), M_side_w4 post T4 x1 x2 x3 S → T4 x1 x2 x3 S) → M_side_w0 post T4 x1 S
theorem M_side_ok {x1 : Int32} {S : MS} {post : Int32 → MS → Prop} (h : M_side_VC x1 S post) : M_side x1 S post := by
  intro l D dA o sz
  refine mr_start (fun A => va_Qi post (mB D dA o A) A) rfl (Nat.le_of_ble_eq_true rfl) (by decide) ?_
  intro p e s m args below meth c ls A C w hl
  have hl : lv_has ls 4 [(0, .ref (o 0)), (1, .int x1)] := hl
  have h := h (fun (x1 : Int32) (x2 : Int32) (x3 : Int32) S => ∀ (H : Heap) (locs : List Loc) (ls : Array Slot), lv_has ls 4 [(0, .ref (o 0)), (1, .int x1), (2, .int x2), (3, .int x3)] → mw D dA o A s S H locs → W p l e rM_side s m args below meth c H locs 0 0 (mQi below args s D dA o A post) (F0 m 4 ls [])) (fun _ _ _ S h H locs ls hl w => M_side_a4 C (fun _ _ _ _ h => h) h hl w)
  exact M_side_a0 C (fun _ _ _ _ h => h) h (lv_sub hl [0, 1] rfl) w

/-! supportOf(I)I -/
def M_supportOf_w37 (post : Int32 → MS → Prop) (T4 : Int32 → Int32 → Int32 → MS → Prop) (v0 : Int32) (v1 : Int32) (x1 : Int32) (x3 : Int32) (S : MS) : Prop :=
  T4 x1 (v1 ||| v0) (x3 + (1 : Int32)) S
set_option maxHeartbeats 4000000 in
set_option maxRecDepth 100000 in
theorem M_supportOf_a37 {p : Program} {l : Launch} {e : Env} {s : State} {m : MethodId} {args : Array Value} {below : List Frame} {meth : Method} {c : Code} {D : va_G} {dA : Nat → ClassId} {o : Nat → Nat} {A : Nat → Prop} {post : Int32 → MS → Prop} {T4 : Int32 → Int32 → Int32 → MS → Prop} (C : mC p m c cX5_supportOf 4 s args meth (Option.some Jvm.ClassFile.FieldType.int) A) (hT4 : ∀ (x1 : Int32) (x2 : Int32) (x3 : Int32) (S : MS), T4 x1 x2 x3 S → ∀ (H : Heap) (locs : List Loc) (ls : Array Slot), lv_has ls 4 [(0, .ref (o 0)), (1, .int x1), (2, .int x2), (3, .int x3)] → mw D dA o A s S H locs → W p l e rM_supportOf s m args below meth c H locs 0 0 (mQi below args s D dA o A post) (F0 m 4 ls [])) {v0 : Int32} {v1 : Int32} {x1 : Int32} {x3 : Int32} {S : MS} (h : M_supportOf_w37 post T4 v0 v1 x1 x3 S) {H : Heap} {locs : List Loc} {ls : Array Slot} (hl : lv_has ls 4 [(0, .ref (o 0)), (1, .int x1), (3, .int x3)]) (w : mw D dA o A s S H locs) : W p l e rM_supportOf s m args below meth c H locs 0 0 (mQi below args s D dA o A post) (F0 m 37 ls [.int v0, .int v1]) := by
  unfold M_supportOf_w37 at h
  obtain ⟨⟨hx, hb, hml, hown, hts⟩, hr, hlk, hA⟩ := id C
  refine lv_ior hx hb dX5_supportOf_37 ?_
  refine lv_istore_n (lv' := [(2, .int _), (0, .ref _), (1, .int _), (3, .int _)]) hx hb dX5_supportOf_38 rfl hl (by decide) rfl (fun ls hl => ?_)
  refine lv_iinc (v := _ + (1 : Int32)) (lv' := [(3, .int _), (2, .int _), (0, .ref _), (1, .int _)]) hx hb dX5_supportOf_39 hl (k := 3) rfl rfl (by decide) rfl (fun ls hl => ?_)
  refine lv_goto (tgt := 4) hx hb dX5_supportOf_42 (by decide) ?_
  exact hT4 _ _ _ _ h _ _ _ (lv_sub hl [2, 3, 1, 0] rfl) w
def M_supportOf_w4 (post : Int32 → MS → Prop) (T4 : Int32 → Int32 → Int32 → MS → Prop) (x1 : Int32) (x2 : Int32) (x3 : Int32) (S : MS) : Prop :=
  ((((7 : Int32) * (gF S 0)) ≤ x3 → post x2 S) ∧ (¬ ((7 : Int32) * (gF S 0)) ≤ x3 → (vp_in (((21 : Int32) * x1) + x3) 42000 ∧ (((gI S 15 ((((21 : Int32) * x1) + x3)).toNatClampNeg) = 0 → M_supportOf_w37 post T4 (0 : Int32) x2 x1 x3 S) ∧ (¬ (gI S 15 ((((21 : Int32) * x1) + x3)).toNatClampNeg) = 0 → M_supportOf_w37 post T4 ((1 : Int32) <<< (x3 &&& 31)) x2 x1 x3 S)))))
set_option maxHeartbeats 4000000 in
set_option maxRecDepth 100000 in
theorem M_supportOf_a4 {p : Program} {l : Launch} {e : Env} {s : State} {m : MethodId} {args : Array Value} {below : List Frame} {meth : Method} {c : Code} {D : va_G} {dA : Nat → ClassId} {o : Nat → Nat} {A : Nat → Prop} {post : Int32 → MS → Prop} {T4 : Int32 → Int32 → Int32 → MS → Prop} (C : mC p m c cX5_supportOf 4 s args meth (Option.some Jvm.ClassFile.FieldType.int) A) (hT4 : ∀ (x1 : Int32) (x2 : Int32) (x3 : Int32) (S : MS), T4 x1 x2 x3 S → ∀ (H : Heap) (locs : List Loc) (ls : Array Slot), lv_has ls 4 [(0, .ref (o 0)), (1, .int x1), (2, .int x2), (3, .int x3)] → mw D dA o A s S H locs → W p l e rM_supportOf s m args below meth c H locs 0 0 (mQi below args s D dA o A post) (F0 m 4 ls [])) {x1 : Int32} {x2 : Int32} {x3 : Int32} {S : MS} (h : M_supportOf_w4 post T4 x1 x2 x3 S) {H : Heap} {locs : List Loc} {ls : Array Slot} (hl : lv_has ls 4 [(0, .ref (o 0)), (1, .int x1), (2, .int x2), (3, .int x3)]) (w : mw D dA o A s S H locs) : W p l e rM_supportOf s m args below meth c H locs 0 0 (mQi below args s D dA o A post) (F0 m 4 ls []) := by
  unfold M_supportOf_w4 at h
  obtain ⟨⟨hx, hb, hml, hown, hts⟩, hr, hlk, hA⟩ := id C
  refine lv_iload_n hx hb dX5_supportOf_4 rfl (lv_at hl 3 rfl) ?_
  refine lv_bipush (v := 7) hx hb dX5_supportOf_5 (by decide) ?_
  refine lv_aload_n hx hb dX5_supportOf_7 rfl (lv_at hl 0 rfl) ?_
  refine mr_get C w 0 (by decide) q577 rfl rfl dX5_supportOf_8 ?_
  refine lv_imul hx hb dX5_supportOf_11 ?_
  obtain ⟨h1, h2⟩ := h
  refine lv_icmp_ge (tgt := 45) hx hb dX5_supportOf_12 (by decide) (fun c1 => ?_) (fun c1 => ?_)
  · have h := h1 c1
    refine lv_iload_n hx hb dX5_supportOf_45 rfl (lv_at hl 2 rfl) ?_
    exact mr_iret C w h dX5_supportOf_46
  · have h := h2 c1
    refine lv_iload_n hx hb dX5_supportOf_15 rfl (lv_at hl 2 rfl) ?_
    refine lv_aload_n hx hb dX5_supportOf_16 rfl (lv_at hl 0 rfl) ?_
    refine mr_get C w 15 (by decide) q592 rfl rfl dX5_supportOf_17 ?_
    refine lv_bipush (v := 21) hx hb dX5_supportOf_20 (by decide) ?_
    refine lv_iload_n hx hb dX5_supportOf_22 rfl (lv_at hl 1 rfl) ?_
    refine lv_imul hx hb dX5_supportOf_23 ?_
    refine lv_iload_n hx hb dX5_supportOf_24 rfl (lv_at hl 3 rfl) ?_
    refine lv_iadd hx hb dX5_supportOf_25 ?_
    obtain ⟨hi, h⟩ := h
    refine mr_iald C w 11 10 rfl rfl hi dX5_supportOf_26 ?_
    obtain ⟨h1, h2⟩ := h
    refine lv_if_eq (tgt := 36) hx hb dX5_supportOf_27 (by decide) (fun c1 => ?_) (fun c1 => ?_)
    · have h := h1 c1
      refine lv_iconst (v := 0) hx hb dX5_supportOf_36 (by decide) ?_
      exact M_supportOf_a37 C hT4 h (lv_sub hl [0, 1, 3] rfl) w
    · have h := h2 c1
      refine lv_iconst (v := 1) hx hb dX5_supportOf_30 (by decide) ?_
      refine lv_iload_n hx hb dX5_supportOf_31 rfl (lv_at hl 3 rfl) ?_
      refine lv_ishl hx hb dX5_supportOf_32 ?_
      refine lv_goto (tgt := 37) hx hb dX5_supportOf_33 (by decide) ?_
      exact M_supportOf_a37 C hT4 h (lv_sub hl [0, 1, 3] rfl) w
def M_supportOf_w0 (post : Int32 → MS → Prop) (T4 : Int32 → Int32 → Int32 → MS → Prop) (x1 : Int32) (S : MS) : Prop :=
  T4 x1 (0 : Int32) (0 : Int32) S
set_option maxHeartbeats 4000000 in
set_option maxRecDepth 100000 in
theorem M_supportOf_a0 {p : Program} {l : Launch} {e : Env} {s : State} {m : MethodId} {args : Array Value} {below : List Frame} {meth : Method} {c : Code} {D : va_G} {dA : Nat → ClassId} {o : Nat → Nat} {A : Nat → Prop} {post : Int32 → MS → Prop} {T4 : Int32 → Int32 → Int32 → MS → Prop} (C : mC p m c cX5_supportOf 4 s args meth (Option.some Jvm.ClassFile.FieldType.int) A) (hT4 : ∀ (x1 : Int32) (x2 : Int32) (x3 : Int32) (S : MS), T4 x1 x2 x3 S → ∀ (H : Heap) (locs : List Loc) (ls : Array Slot), lv_has ls 4 [(0, .ref (o 0)), (1, .int x1), (2, .int x2), (3, .int x3)] → mw D dA o A s S H locs → W p l e rM_supportOf s m args below meth c H locs 0 0 (mQi below args s D dA o A post) (F0 m 4 ls [])) {x1 : Int32} {S : MS} (h : M_supportOf_w0 post T4 x1 S) {H : Heap} {locs : List Loc} {ls : Array Slot} (hl : lv_has ls 4 [(0, .ref (o 0)), (1, .int x1)]) (w : mw D dA o A s S H locs) : W p l e rM_supportOf s m args below meth c H locs 0 0 (mQi below args s D dA o A post) (F0 m 0 ls []) := by
  unfold M_supportOf_w0 at h
  obtain ⟨⟨hx, hb, hml, hown, hts⟩, hr, hlk, hA⟩ := id C
  refine lv_iconst (v := 0) hx hb dX5_supportOf_0 (by decide) ?_
  refine lv_istore_n (lv' := [(2, .int _), (0, .ref _), (1, .int _)]) hx hb dX5_supportOf_1 rfl hl (by decide) rfl (fun ls hl => ?_)
  refine lv_iconst (v := 0) hx hb dX5_supportOf_2 (by decide) ?_
  refine lv_istore_n (lv' := [(3, .int _), (2, .int _), (0, .ref _), (1, .int _)]) hx hb dX5_supportOf_3 rfl hl (by decide) rfl (fun ls hl => ?_)
  exact hT4 _ _ _ _ h _ _ _ (lv_sub hl [2, 3, 1, 0] rfl) w
def M_supportOf_VC (x1 : Int32) (S : MS) (post : Int32 → MS → Prop) : Prop := ∀ (T4 : Int32 → Int32 → Int32 → MS → Prop), (∀ (x1 : Int32) (x2 : Int32) (x3 : Int32) (S : MS), M_supportOf_w4 post T4 x1 x2 x3 S → T4 x1 x2 x3 S) → M_supportOf_w0 post T4 x1 S
theorem M_supportOf_ok {x1 : Int32} {S : MS} {post : Int32 → MS → Prop} (h : M_supportOf_VC x1 S post) : M_supportOf x1 S post := by
  intro l D dA o sz
  refine mr_start (fun A => va_Qi post (mB D dA o A) A) rfl (Nat.le_of_ble_eq_true rfl) (by decide) ?_
  intro p e s m args below meth c ls A C w hl
  have hl : lv_has ls 4 [(0, .ref (o 0)), (1, .int x1)] := hl
  have h := h (fun (x1 : Int32) (x2 : Int32) (x3 : Int32) S => ∀ (H : Heap) (locs : List Loc) (ls : Array Slot), lv_has ls 4 [(0, .ref (o 0)), (1, .int x1), (2, .int x2), (3, .int x3)] → mw D dA o A s S H locs → W p l e rM_supportOf s m args below meth c H locs 0 0 (mQi below args s D dA o A post) (F0 m 4 ls [])) (fun _ _ _ S h H locs ls hl w => M_supportOf_a4 C (fun _ _ _ _ h => h) h hl w)
  exact M_supportOf_a0 C (fun _ _ _ _ h => h) h (lv_sub hl [0, 1] rfl) w
