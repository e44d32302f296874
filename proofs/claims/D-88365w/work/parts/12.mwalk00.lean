/-! in(III)Z -/
def M_in_w15 (post : Int32 → MS → Prop) (v0 : Int32) (S : MS) : Prop :=
  (zok v0 ∧ post v0 S)
set_option maxHeartbeats 4000000 in
set_option maxRecDepth 100000 in
theorem M_in_a15 {p : Program} {l : Launch} {e : Env} {s : State} {m : MethodId} {args : Array Value} {below : List Frame} {meth : Method} {c : Code} {D : va_G} {dA : Nat → ClassId} {o : Nat → Nat} {A : Nat → Prop} {post : Int32 → MS → Prop} (C : mC p m c cX5_in 3 s args meth (Option.some Jvm.ClassFile.FieldType.boolean) A) {v0 : Int32} {S : MS} (h : M_in_w15 post v0 S) {H : Heap} {locs : List Loc} {ls : Array Slot} (hl : lv_has ls 3 []) (w : mw D dA o A s S H locs) : W p l e rM_in s m args below meth c H locs 0 0 (mQi below args s D dA o A post) (F0 m 15 ls [.int v0]) := by
  unfold M_in_w15 at h
  obtain ⟨⟨hx, hb, hml, hown, hts⟩, hr, hlk, hA⟩ := id C
  exact mr_zret C w (zok_n h.1) h.2 dX5_in_15
def M_in_w14 (post : Int32 → MS → Prop) (S : MS) : Prop :=
  M_in_w15 post (0 : Int32) S
set_option maxHeartbeats 4000000 in
set_option maxRecDepth 100000 in
theorem M_in_a14 {p : Program} {l : Launch} {e : Env} {s : State} {m : MethodId} {args : Array Value} {below : List Frame} {meth : Method} {c : Code} {D : va_G} {dA : Nat → ClassId} {o : Nat → Nat} {A : Nat → Prop} {post : Int32 → MS → Prop} (C : mC p m c cX5_in 3 s args meth (Option.some Jvm.ClassFile.FieldType.boolean) A) {S : MS} (h : M_in_w14 post S) {H : Heap} {locs : List Loc} {ls : Array Slot} (hl : lv_has ls 3 []) (w : mw D dA o A s S H locs) : W p l e rM_in s m args below meth c H locs 0 0 (mQi below args s D dA o A post) (F0 m 14 ls []) := by
  unfold M_in_w14 at h
  obtain ⟨⟨hx, hb, hml, hown, hts⟩, hr, hlk, hA⟩ := id C
  refine lv_iconst (v := 0) hx hb dX5_in_14 (by decide) ?_
  exact M_in_a15 C h (lv_sub hl [] rfl) w
def M_in_w0 (post : Int32 → MS → Prop) (x0 : Int32) (x1 : Int32) (x2 : Int32) (S : MS) : Prop :=
  ((x0 < x1 → M_in_w14 post S) ∧ (¬ x0 < x1 → ((x2 < x0 → M_in_w14 post S) ∧ (¬ x2 < x0 → M_in_w15 post (1 : Int32) S))))
set_option maxHeartbeats 4000000 in
set_option maxRecDepth 100000 in
theorem M_in_a0 {p : Program} {l : Launch} {e : Env} {s : State} {m : MethodId} {args : Array Value} {below : List Frame} {meth : Method} {c : Code} {D : va_G} {dA : Nat → ClassId} {o : Nat → Nat} {A : Nat → Prop} {post : Int32 → MS → Prop} (C : mC p m c cX5_in 3 s args meth (Option.some Jvm.ClassFile.FieldType.boolean) A) {x0 : Int32} {x1 : Int32} {x2 : Int32} {S : MS} (h : M_in_w0 post x0 x1 x2 S) {H : Heap} {locs : List Loc} {ls : Array Slot} (hl : lv_has ls 3 [(0, .int x0), (1, .int x1), (2, .int x2)]) (w : mw D dA o A s S H locs) : W p l e rM_in s m args below meth c H locs 0 0 (mQi below args s D dA o A post) (F0 m 0 ls []) := by
  unfold M_in_w0 at h
  obtain ⟨⟨hx, hb, hml, hown, hts⟩, hr, hlk, hA⟩ := id C
  refine lv_iload_n hx hb dX5_in_0 rfl (lv_at hl 0 rfl) ?_
  refine lv_iload_n hx hb dX5_in_1 rfl (lv_at hl 1 rfl) ?_
  obtain ⟨h1, h2⟩ := h
  refine lv_icmp_lt (tgt := 14) hx hb dX5_in_2 (by decide) (fun c1 => ?_) (fun c1 => ?_)
  · have h := h1 c1
    exact M_in_a14 C h (lv_sub hl [] rfl) w
  · have h := h2 c1
    refine lv_iload_n hx hb dX5_in_5 rfl (lv_at hl 0 rfl) ?_
    refine lv_iload_n hx hb dX5_in_6 rfl (lv_at hl 2 rfl) ?_
    obtain ⟨h1, h2⟩ := h
    refine lv_icmp_gt (tgt := 14) hx hb dX5_in_7 (by decide) (fun c1 => ?_) (fun c1 => ?_)
    · have h := h1 c1
      exact M_in_a14 C h (lv_sub hl [] rfl) w
    · have h := h2 c1
      refine lv_iconst (v := 1) hx hb dX5_in_10 (by decide) ?_
      refine lv_goto (tgt := 15) hx hb dX5_in_11 (by decide) ?_
      exact M_in_a15 C h (lv_sub hl [] rfl) w
def M_in_VC (x0 : Int32) (x1 : Int32) (x2 : Int32) (S : MS) (post : Int32 → MS → Prop) : Prop := M_in_w0 post x0 x1 x2 S
theorem M_in_ok {x0 : Int32} {x1 : Int32} {x2 : Int32} {S : MS} {post : Int32 → MS → Prop} (h : M_in_VC x0 x1 x2 S post) : M_in x0 x1 x2 S post := by
  intro l D dA o sz
  refine mr_start (fun A => va_Qi post (mB D dA o A) A) rfl (Nat.le_of_ble_eq_true rfl) (by decide) ?_
  intro p e s m args below meth c ls A C w hl
  have hl : lv_has ls 3 [(0, .int x0), (1, .int x1), (2, .int x2)] := hl
  exact M_in_a0 C h (lv_sub hl [0, 1, 2] rfl) w

/-! isPiece(I)Z -/
def M_isPiece_w0 (post : Int32 → MS → Prop) (x1 : Int32) (S : MS) : Prop :=
  M_in x1 (0 : Int32) ((gF S 0) - (1 : Int32)) S (fun (r1 : Int32) (S1 : MS) => (zok r1 ∧ post r1 S1))
set_option maxHeartbeats 4000000 in
set_option maxRecDepth 100000 in
theorem M_isPiece_a0 {p : Program} {l : Launch} {e : Env} {s : State} {m : MethodId} {args : Array Value} {below : List Frame} {meth : Method} {c : Code} {D : va_G} {dA : Nat → ClassId} {o : Nat → Nat} {A : Nat → Prop} {post : Int32 → MS → Prop} (C : mC p m c cX5_isPiece 2 s args meth (Option.some Jvm.ClassFile.FieldType.boolean) A) {x1 : Int32} {S : MS} (h : M_isPiece_w0 post x1 S) {H : Heap} {locs : List Loc} {ls : Array Slot} (hl : lv_has ls 2 [(0, .ref (o 0)), (1, .int x1)]) (w : mw D dA o A s S H locs) : W p l e rM_isPiece s m args below meth c H locs 0 0 (mQi below args s D dA o A post) (F0 m 0 ls []) := by
  unfold M_isPiece_w0 at h
  obtain ⟨⟨hx, hb, hml, hown, hts⟩, hr, hlk, hA⟩ := id C
  refine lv_iload_n hx hb dX5_isPiece_0 rfl (lv_at hl 1 rfl) ?_
  refine lv_iconst (v := 0) hx hb dX5_isPiece_1 (by decide) ?_
  refine lv_aload_n hx hb dX5_isPiece_2 rfl (lv_at hl 0 rfl) ?_
  refine mr_get C w 0 (by decide) q577 rfl rfl dX5_isPiece_3 ?_
  refine lv_iconst (v := 1) hx hb dX5_isPiece_6 (by decide) ?_
  refine lv_isub hx hb dX5_isPiece_7 ?_
  refine mr_callSI (rest := []) C w h (lw_S q676 q677 q87 q678) M_in_d rfl rfl ⟨Nat.le_of_ble_eq_true rfl, Nat.le_of_ble_eq_true rfl⟩ rfl hl.1 rfl (Nat.le_of_ble_eq_true rfl) ⟨Nat.zero_le _, Nat.zero_le _⟩ dX5_isPiece_8 (fun r1 S1 H locs h w => ?_)
  exact mr_zret C w (zok_n h.1) h.2 dX5_isPiece_11
def M_isPiece_VC (x1 : Int32) (S : MS) (post : Int32 → MS → Prop) : Prop := M_isPiece_w0 post x1 S
theorem M_isPiece_ok {x1 : Int32} {S : MS} {post : Int32 → MS → Prop} (h : M_isPiece_VC x1 S post) : M_isPiece x1 S post := by
  intro l D dA o sz
  refine mr_start (fun A => va_Qi post (mB D dA o A) A) rfl (Nat.le_of_ble_eq_true rfl) (by decide) ?_
  intro p e s m args below meth c ls A C w hl
  have hl : lv_has ls 2 [(0, .ref (o 0)), (1, .int x1)] := hl
  exact M_isPiece_a0 C h (lv_sub hl [0, 1] rfl) w

/-! isSide(II)Z -/
def M_isSide_w22 (post : Int32 → MS → Prop) (v0 : Int32) (S : MS) : Prop :=
  (zok v0 ∧ post v0 S)
set_option maxHeartbeats 4000000 in
set_option maxRecDepth 100000 in
theorem M_isSide_a22 {p : Program} {l : Launch} {e : Env} {s : State} {m : MethodId} {args : Array Value} {below : List Frame} {meth : Method} {c : Code} {D : va_G} {dA : Nat → ClassId} {o : Nat → Nat} {A : Nat → Prop} {post : Int32 → MS → Prop} (C : mC p m c cX5_isSide 3 s args meth (Option.some Jvm.ClassFile.FieldType.boolean) A) {v0 : Int32} {S : MS} (h : M_isSide_w22 post v0 S) {H : Heap} {locs : List Loc} {ls : Array Slot} (hl : lv_has ls 3 [(0, .ref (o 0))]) (w : mw D dA o A s S H locs) : W p l e rM_isSide s m args below meth c H locs 0 0 (mQi below args s D dA o A post) (F0 m 22 ls [.int v0]) := by
  unfold M_isSide_w22 at h
  obtain ⟨⟨hx, hb, hml, hown, hts⟩, hr, hlk, hA⟩ := id C
  exact mr_zret C w (zok_n h.1) h.2 dX5_isSide_22
def M_isSide_w21 (post : Int32 → MS → Prop) (S : MS) : Prop :=
  M_isSide_w22 post (0 : Int32) S
set_option maxHeartbeats 4000000 in
set_option maxRecDepth 100000 in
theorem M_isSide_a21 {p : Program} {l : Launch} {e : Env} {s : State} {m : MethodId} {args : Array Value} {below : List Frame} {meth : Method} {c : Code} {D : va_G} {dA : Nat → ClassId} {o : Nat → Nat} {A : Nat → Prop} {post : Int32 → MS → Prop} (C : mC p m c cX5_isSide 3 s args meth (Option.some Jvm.ClassFile.FieldType.boolean) A) {S : MS} (h : M_isSide_w21 post S) {H : Heap} {locs : List Loc} {ls : Array Slot} (hl : lv_has ls 3 [(0, .ref (o 0))]) (w : mw D dA o A s S H locs) : W p l e rM_isSide s m args below meth c H locs 0 0 (mQi below args s D dA o A post) (F0 m 21 ls []) := by
  unfold M_isSide_w21 at h
  obtain ⟨⟨hx, hb, hml, hown, hts⟩, hr, hlk, hA⟩ := id C
  refine lv_iconst (v := 0) hx hb dX5_isSide_21 (by decide) ?_
  exact M_isSide_a22 C h (lv_sub hl [0] rfl) w
def M_isSide_w0 (post : Int32 → MS → Prop) (x1 : Int32) (x2 : Int32) (S : MS) : Prop :=
  M_isPiece x1 S (fun (r1 : Int32) (S1 : MS) => ((r1 = 0 → M_isSide_w21 post S1) ∧ (¬ r1 = 0 → M_in x2 (0 : Int32) (3 : Int32) S1 (fun (r2 : Int32) (S2 : MS) => ((r2 = 0 → M_isSide_w21 post S2) ∧ (¬ r2 = 0 → M_isSide_w22 post (1 : Int32) S2))))))
set_option maxHeartbeats 4000000 in
set_option maxRecDepth 100000 in
theorem M_isSide_a0 {p : Program} {l : Launch} {e : Env} {s : State} {m : MethodId} {args : Array Value} {below : List Frame} {meth : Method} {c : Code} {D : va_G} {dA : Nat → ClassId} {o : Nat → Nat} {A : Nat → Prop} {post : Int32 → MS → Prop} (C : mC p m c cX5_isSide 3 s args meth (Option.some Jvm.ClassFile.FieldType.boolean) A) {x1 : Int32} {x2 : Int32} {S : MS} (h : M_isSide_w0 post x1 x2 S) {H : Heap} {locs : List Loc} {ls : Array Slot} (hl : lv_has ls 3 [(0, .ref (o 0)), (1, .int x1), (2, .int x2)]) (w : mw D dA o A s S H locs) : W p l e rM_isSide s m args below meth c H locs 0 0 (mQi below args s D dA o A post) (F0 m 0 ls []) := by
  unfold M_isSide_w0 at h
  obtain ⟨⟨hx, hb, hml, hown, hts⟩, hr, hlk, hA⟩ := id C
  refine lv_aload_n hx hb dX5_isSide_0 rfl (lv_at hl 0 rfl) ?_
  refine lv_iload_n hx hb dX5_isSide_1 rfl (lv_at hl 1 rfl) ?_
  refine mr_callVI (rest := []) C w h (lw_V q672 q674 qs36 q87 q675) M_isPiece_d rfl rfl ⟨Nat.le_of_ble_eq_true rfl, Nat.le_of_ble_eq_true rfl⟩ rfl hl.1 rfl (Nat.le_of_ble_eq_true rfl) ⟨Nat.zero_le _, Nat.zero_le _⟩ dX5_isSide_2 (fun r1 S1 H locs h w => ?_)
  obtain ⟨h1, h2⟩ := h
  refine lv_if_eq (tgt := 21) hx hb dX5_isSide_5 (by decide) (fun c1 => ?_) (fun c1 => ?_)
  · have h := h1 c1
    exact M_isSide_a21 C h (lv_sub hl [0] rfl) w
  · have h := h2 c1
    refine lv_iload_n hx hb dX5_isSide_8 rfl (lv_at hl 2 rfl) ?_
    refine lv_iconst (v := 0) hx hb dX5_isSide_9 (by decide) ?_
    refine lv_iconst (v := 3) hx hb dX5_isSide_10 (by decide) ?_
    refine mr_callSI (rest := []) C w h (lw_S q676 q677 q87 q678) M_in_d rfl rfl ⟨Nat.le_of_ble_eq_true rfl, Nat.le_of_ble_eq_true rfl⟩ rfl hl.1 rfl (Nat.le_of_ble_eq_true rfl) ⟨Nat.zero_le _, Nat.zero_le _⟩ dX5_isSide_11 (fun r2 S2 H locs h w => ?_)
    obtain ⟨h1, h2⟩ := h
    refine lv_if_eq (tgt := 21) hx hb dX5_isSide_14 (by decide) (fun c1 => ?_) (fun c1 => ?_)
    · have h := h1 c1
      exact M_isSide_a21 C h (lv_sub hl [0] rfl) w
    · have h := h2 c1
      refine lv_iconst (v := 1) hx hb dX5_isSide_17 (by decide) ?_
      refine lv_goto (tgt := 22) hx hb dX5_isSide_18 (by decide) ?_
      exact M_isSide_a22 C h (lv_sub hl [0] rfl) w
def M_isSide_VC (x1 : Int32) (x2 : Int32) (S : MS) (post : Int32 → MS → Prop) : Prop := M_isSide_w0 post x1 x2 S
theorem M_isSide_ok {x1 : Int32} {x2 : Int32} {S : MS} {post : Int32 → MS → Prop} (h : M_isSide_VC x1 x2 S post) : M_isSide x1 x2 S post := by
  intro l D dA o sz
  refine mr_start (fun A => va_Qi post (mB D dA o A) A) rfl (Nat.le_of_ble_eq_true rfl) (by decide) ?_
  intro p e s m args below meth c ls A C w hl
  have hl : lv_has ls 3 [(0, .ref (o 0)), (1, .int x1), (2, .int x2)] := hl
  exact M_isSide_a0 C h (lv_sub hl [0, 1, 2] rfl) w

/-! edgeOf(II)I -/
def M_edgeOf_w48 (post : Int32 → MS → Prop) (T2 : Int32 → Int32 → Int32 → MS → Prop) (x3 : Int32) (S : MS) : Prop :=
  post x3 S
set_option maxHeartbeats 4000000 in
set_option maxRecDepth 100000 in
theorem M_edgeOf_a48 {p : Program} {l : Launch} {e : Env} {s : State} {m : MethodId} {args : Array Value} {below : List Frame} {meth : Method} {c : Code} {D : va_G} {dA : Nat → ClassId} {o : Nat → Nat} {A : Nat → Prop} {post : Int32 → MS → Prop} {T2 : Int32 → Int32 → Int32 → MS → Prop} (C : mC p m c cX5_edgeOf 4 s args meth (Option.some Jvm.ClassFile.FieldType.int) A) (hT2 : ∀ (x1 : Int32) (x2 : Int32) (x3 : Int32) (S : MS), T2 x1 x2 x3 S → ∀ (H : Heap) (locs : List Loc) (ls : Array Slot), lv_has ls 4 [(0, .ref (o 0)), (1, .int x1), (2, .int x2), (3, .int x3)] → mw D dA o A s S H locs → W p l e rM_edgeOf s m args below meth c H locs 0 0 (mQi below args s D dA o A post) (F0 m 2 ls [])) {x3 : Int32} {S : MS} (h : M_edgeOf_w48 post T2 x3 S) {H : Heap} {locs : List Loc} {ls : Array Slot} (hl : lv_has ls 4 [(0, .ref (o 0)), (3, .int x3)]) (w : mw D dA o A s S H locs) : W p l e rM_edgeOf s m args below meth c H locs 0 0 (mQi below args s D dA o A post) (F0 m 48 ls []) := by
  unfold M_edgeOf_w48 at h
  obtain ⟨⟨hx, hb, hml, hown, hts⟩, hr, hlk, hA⟩ := id C
  refine lv_iload_n hx hb dX5_edgeOf_48 rfl (lv_at hl 1 rfl) ?_
  exact mr_iret C w h dX5_edgeOf_49
def M_edgeOf_w42 (post : Int32 → MS → Prop) (T2 : Int32 → Int32 → Int32 → MS → Prop) (x1 : Int32) (x2 : Int32) (x3 : Int32) (S : MS) : Prop :=
  T2 x1 x2 (x3 + (1 : Int32)) S
set_option maxHeartbeats 4000000 in
set_option maxRecDepth 100000 in
theorem M_edgeOf_a42 {p : Program} {l : Launch} {e : Env} {s : State} {m : MethodId} {args : Array Value} {below : List Frame} {meth : Method} {c : Code} {D : va_G} {dA : Nat → ClassId} {o : Nat → Nat} {A : Nat → Prop} {post : Int32 → MS → Prop} {T2 : Int32 → Int32 → Int32 → MS → Prop} (C : mC p m c cX5_edgeOf 4 s args meth (Option.some Jvm.ClassFile.FieldType.int) A) (hT2 : ∀ (x1 : Int32) (x2 : Int32) (x3 : Int32) (S : MS), T2 x1 x2 x3 S → ∀ (H : Heap) (locs : List Loc) (ls : Array Slot), lv_has ls 4 [(0, .ref (o 0)), (1, .int x1), (2, .int x2), (3, .int x3)] → mw D dA o A s S H locs → W p l e rM_edgeOf s m args below meth c H locs 0 0 (mQi below args s D dA o A post) (F0 m 2 ls [])) {x1 : Int32} {x2 : Int32} {x3 : Int32} {S : MS} (h : M_edgeOf_w42 post T2 x1 x2 x3 S) {H : Heap} {locs : List Loc} {ls : Array Slot} (hl : lv_has ls 4 [(0, .ref (o 0)), (1, .int x1), (2, .int x2), (3, .int x3)]) (w : mw D dA o A s S H locs) : W p l e rM_edgeOf s m args below meth c H locs 0 0 (mQi below args s D dA o A post) (F0 m 42 ls []) := by
  unfold M_edgeOf_w42 at h
  obtain ⟨⟨hx, hb, hml, hown, hts⟩, hr, hlk, hA⟩ := id C
  refine lv_iinc (v := _ + (1 : Int32)) (lv' := [(3, .int _), (0, .ref _), (1, .int _), (2, .int _)]) hx hb dX5_edgeOf_42 hl (k := 3) rfl rfl (by decide) rfl (fun ls hl => ?_)
  refine lv_goto (tgt := 2) hx hb dX5_edgeOf_45 (by decide) ?_
  exact hT2 _ _ _ _ h _ _ _ (lv_sub hl [1, 2, 3, 0] rfl) w
def M_edgeOf_w22 (post : Int32 → MS → Prop) (T2 : Int32 → Int32 → Int32 → MS → Prop) (x1 : Int32) (x2 : Int32) (x3 : Int32) (S : MS) : Prop :=
  (vp_in x3 6 ∧ ((¬ (gI S 4 (x3).toNatClampNeg) = x2 → M_edgeOf_w42 post T2 x1 x2 x3 S) ∧ ((gI S 4 (x3).toNatClampNeg) = x2 → (vp_in x3 6 ∧ (((gI S 5 (x3).toNatClampNeg) = x1 → M_edgeOf_w48 post T2 x3 S) ∧ (¬ (gI S 5 (x3).toNatClampNeg) = x1 → M_edgeOf_w42 post T2 x1 x2 x3 S))))))
set_option maxHeartbeats 4000000 in
set_option maxRecDepth 100000 in
theorem M_edgeOf_a22 {p : Program} {l : Launch} {e : Env} {s : State} {m : MethodId} {args : Array Value} {below : List Frame} {meth : Method} {c : Code} {D : va_G} {dA : Nat → ClassId} {o : Nat → Nat} {A : Nat → Prop} {post : Int32 → MS → Prop} {T2 : Int32 → Int32 → Int32 → MS → Prop} (C : mC p m c cX5_edgeOf 4 s args meth (Option.some Jvm.ClassFile.FieldType.int) A) (hT2 : ∀ (x1 : Int32) (x2 : Int32) (x3 : Int32) (S : MS), T2 x1 x2 x3 S → ∀ (H : Heap) (locs : List Loc) (ls : Array Slot), lv_has ls 4 [(0, .ref (o 0)), (1, .int x1), (2, .int x2), (3, .int x3)] → mw D dA o A s S H locs → W p l e rM_edgeOf s m args below meth c H locs 0 0 (mQi below args s D dA o A post) (F0 m 2 ls [])) {x1 : Int32} {x2 : Int32} {x3 : Int32} {S : MS} (h : M_edgeOf_w22 post T2 x1 x2 x3 S) {H : Heap} {locs : List Loc} {ls : Array Slot} (hl : lv_has ls 4 [(0, .ref (o 0)), (1, .int x1), (2, .int x2), (3, .int x3)]) (w : mw D dA o A s S H locs) : W p l e rM_edgeOf s m args below meth c H locs 0 0 (mQi below args s D dA o A post) (F0 m 22 ls []) := by
  unfold M_edgeOf_w22 at h
  obtain ⟨⟨hx, hb, hml, hown, hts⟩, hr, hlk, hA⟩ := id C
  refine lv_aload_n hx hb dX5_edgeOf_22 rfl (lv_at hl 0 rfl) ?_
  refine mr_get C w 4 (by decide) q581 rfl rfl dX5_edgeOf_23 ?_
  refine lv_iload_n hx hb dX5_edgeOf_26 rfl (lv_at hl 3 rfl) ?_
  obtain ⟨hi, h⟩ := h
  refine mr_iald C w 4 3 rfl rfl hi dX5_edgeOf_27 ?_
  refine lv_iload_n hx hb dX5_edgeOf_28 rfl (lv_at hl 2 rfl) ?_
  obtain ⟨h1, h2⟩ := h
  refine lv_icmp_ne (tgt := 42) hx hb dX5_edgeOf_29 (by decide) (fun c1 => ?_) (fun c1 => ?_)
  · have h := h1 c1
    exact M_edgeOf_a42 C hT2 h (lv_sub hl [0, 1, 2, 3] rfl) w
  · have h := h2 c1
    refine lv_aload_n hx hb dX5_edgeOf_32 rfl (lv_at hl 0 rfl) ?_
    refine mr_get C w 5 (by decide) q582 rfl rfl dX5_edgeOf_33 ?_
    refine lv_iload_n hx hb dX5_edgeOf_36 rfl (lv_at hl 3 rfl) ?_
    obtain ⟨hi, h⟩ := h
    refine mr_iald C w 5 4 rfl rfl hi dX5_edgeOf_37 ?_
    refine lv_iload_n hx hb dX5_edgeOf_38 rfl (lv_at hl 1 rfl) ?_
    obtain ⟨h1, h2⟩ := h
    refine lv_icmp_eq (tgt := 48) hx hb dX5_edgeOf_39 (by decide) (fun c1 => ?_) (fun c1 => ?_)
    · have h := h1 c1
      exact M_edgeOf_a48 C hT2 h (lv_sub hl [0, 3] rfl) w
    · have h := h2 c1
      exact M_edgeOf_a42 C hT2 h (lv_sub hl [0, 1, 2, 3] rfl) w
def M_edgeOf_w2 (post : Int32 → MS → Prop) (T2 : Int32 → Int32 → Int32 → MS → Prop) (x1 : Int32) (x2 : Int32) (x3 : Int32) (S : MS) : Prop :=
  (vp_in x3 6 ∧ ((¬ (gI S 4 (x3).toNatClampNeg) = x1 → M_edgeOf_w22 post T2 x1 x2 x3 S) ∧ ((gI S 4 (x3).toNatClampNeg) = x1 → (vp_in x3 6 ∧ (((gI S 5 (x3).toNatClampNeg) = x2 → M_edgeOf_w48 post T2 x3 S) ∧ (¬ (gI S 5 (x3).toNatClampNeg) = x2 → M_edgeOf_w22 post T2 x1 x2 x3 S))))))
set_option maxHeartbeats 4000000 in
set_option maxRecDepth 100000 in
theorem M_edgeOf_a2 {p : Program} {l : Launch} {e : Env} {s : State} {m : MethodId} {args : Array Value} {below : List Frame} {meth : Method} {c : Code} {D : va_G} {dA : Nat → ClassId} {o : Nat → Nat} {A : Nat → Prop} {post : Int32 → MS → Prop} {T2 : Int32 → Int32 → Int32 → MS → Prop} (C : mC p m c cX5_edgeOf 4 s args meth (Option.some Jvm.ClassFile.FieldType.int) A) (hT2 : ∀ (x1 : Int32) (x2 : Int32) (x3 : Int32) (S : MS), T2 x1 x2 x3 S → ∀ (H : Heap) (locs : List Loc) (ls : Array Slot), lv_has ls 4 [(0, .ref (o 0)), (1, .int x1), (2, .int x2), (3, .int x3)] → mw D dA o A s S H locs → W p l e rM_edgeOf s m args below meth c H locs 0 0 (mQi below args s D dA o A post) (F0 m 2 ls [])) {x1 : Int32} {x2 : Int32} {x3 : Int32} {S : MS} (h : M_edgeOf_w2 post T2 x1 x2 x3 S) {H : Heap} {locs : List Loc} {ls : Array Slot} (hl : lv_has ls 4 [(0, .ref (o 0)), (1, .int x1), (2, .int x2), (3, .int x3)]) (w : mw D dA o A s S H locs) : W p l e rM_edgeOf s m args below meth c H locs 0 0 (mQi below args s D dA o A post) (F0 m 2 ls []) := by
  unfold M_edgeOf_w2 at h
  obtain ⟨⟨hx, hb, hml, hown, hts⟩, hr, hlk, hA⟩ := id C
  refine lv_aload_n hx hb dX5_edgeOf_2 rfl (lv_at hl 0 rfl) ?_
  refine mr_get C w 4 (by decide) q581 rfl rfl dX5_edgeOf_3 ?_
  refine lv_iload_n hx hb dX5_edgeOf_6 rfl (lv_at hl 3 rfl) ?_
  obtain ⟨hi, h⟩ := h
  refine mr_iald C w 4 3 rfl rfl hi dX5_edgeOf_7 ?_
  refine lv_iload_n hx hb dX5_edgeOf_8 rfl (lv_at hl 1 rfl) ?_
  obtain ⟨h1, h2⟩ := h
  refine lv_icmp_ne (tgt := 22) hx hb dX5_edgeOf_9 (by decide) (fun c1 => ?_) (fun c1 => ?_)
  · have h := h1 c1
    exact M_edgeOf_a22 C hT2 h (lv_sub hl [0, 1, 2, 3] rfl) w
  · have h := h2 c1
    refine lv_aload_n hx hb dX5_edgeOf_12 rfl (lv_at hl 0 rfl) ?_
    refine mr_get C w 5 (by decide) q582 rfl rfl dX5_edgeOf_13 ?_
    refine lv_iload_n hx hb dX5_edgeOf_16 rfl (lv_at hl 3 rfl) ?_
    obtain ⟨hi, h⟩ := h
    refine mr_iald C w 5 4 rfl rfl hi dX5_edgeOf_17 ?_
    refine lv_iload_n hx hb dX5_edgeOf_18 rfl (lv_at hl 2 rfl) ?_
    obtain ⟨h1, h2⟩ := h
    refine lv_icmp_eq (tgt := 48) hx hb dX5_edgeOf_19 (by decide) (fun c1 => ?_) (fun c1 => ?_)
    · have h := h1 c1
      exact M_edgeOf_a48 C hT2 h (lv_sub hl [0, 3] rfl) w
    · have h := h2 c1
      exact M_edgeOf_a22 C hT2 h (lv_sub hl [0, 1, 2, 3] rfl) w
def M_edgeOf_w0 (post : Int32 → MS → Prop) (T2 : Int32 → Int32 → Int32 → MS → Prop) (x1 : Int32) (x2 : Int32) (S : MS) : Prop :=
  T2 x1 x2 (0 : Int32) S
set_option maxHeartbeats 4000000 in
set_option maxRecDepth 100000 in
theorem M_edgeOf_a0 {p : Program} {l : Launch} {e : Env} {s : State} {m : MethodId} {args : Array Value} {below : List Frame} {meth : Method} {c : Code} {D : va_G} {dA : Nat → ClassId} {o : Nat → Nat} {A : Nat → Prop} {post : Int32 → MS → Prop} {T2 : Int32 → Int32 → Int32 → MS → Prop} (C : mC p m c cX5_edgeOf 4 s args meth (Option.some Jvm.ClassFile.FieldType.int) A) (hT2 : ∀ (x1 : Int32) (x2 : Int32) (x3 : Int32) (S : MS), T2 x1 x2 x3 S → ∀ (H : Heap) (locs : List Loc) (ls : Array Slot), lv_has ls 4 [(0, .ref (o 0)), (1, .int x1), (2, .int x2), (3, .int x3)] → mw D dA o A s S H locs → W p l e rM_edgeOf s m args below meth c H locs 0 0 (mQi below args s D dA o A post) (F0 m 2 ls [])) {x1 : Int32} {x2 : Int32} {S : MS} (h : M_edgeOf_w0 post T2 x1 x2 S) {H : Heap} {locs : List Loc} {ls : Array Slot} (hl : lv_has ls 4 [(0, .ref (o 0)), (1, .int x1), (2, .int x2)]) (w : mw D dA o A s S H locs) : W p l e rM_edgeOf s m args below meth c H locs 0 0 (mQi below args s D dA o A post) (F0 m 0 ls []) := by
  unfold M_edgeOf_w0 at h
  obtain ⟨⟨hx, hb, hml, hown, hts⟩, hr, hlk, hA⟩ := id C
  refine lv_iconst (v := 0) hx hb dX5_edgeOf_0 (by decide) ?_
  refine lv_istore_n (lv' := [(3, .int _), (0, .ref _), (1, .int _), (2, .int _)]) hx hb dX5_edgeOf_1 rfl hl (by decide) rfl (fun ls hl => ?_)
  exact hT2 _ _ _ _ h _ _ _ (lv_sub hl [1, 2, 3, 0] rfl) w
def M_edgeOf_VC (x1 : Int32) (x2 : Int32) (S : MS) (post : Int32 → MS → Prop) : Prop := ∀ (T2 : Int32 → Int32 → Int32 → MS → Prop), (∀ (x1 : Int32) (x2 : Int32) (x3 : Int32) (S : MS), M_edgeOf_w2 post T2 x1 x2 x3 S → T2 x1 x2 x3 S) → M_edgeOf_w0 post T2 x1 x2 S
theorem M_edgeOf_ok {x1 : Int32} {x2 : Int32} {S : MS} {post : Int32 → MS → Prop} (h : M_edgeOf_VC x1 x2 S post) : M_edgeOf x1 x2 S post := by
  intro l D dA o sz
  refine mr_start (fun A => va_Qi post (mB D dA o A) A) rfl (Nat.le_of_ble_eq_true rfl) (by decide) ?_
  intro p e s m args below meth c ls A C w hl
  have hl : lv_has ls 4 [(0, .ref (o 0)), (1, .int x1), (2, .int x2)] := hl
  have h := h (fun (x1 : Int32) (x2 : Int32) (x3 : Int32) S => ∀ (H : Heap) (locs : List Loc) (ls : Array Slot), lv_has ls 4 [(0, .ref (o 0)), (1, .int x1), (2, .int x2), (3, .int x3)] → mw D dA o A s S H locs → W p l e rM_edgeOf s m args below meth c H locs 0 0 (mQi below args s D dA o A post) (F0 m 2 ls [])) (fun _ _ _ S h H locs ls hl w => M_edgeOf_a2 C (fun _ _ _ _ h => h) h hl w)
  exact M_edgeOf_a0 C (fun _ _ _ _ h => h) h (lv_sub hl [0, 1, 2] rfl) w

/-! endOf(III)I -/
def M_endOf_w23 (post : Int32 → MS → Prop) (v0 : Int32) (v1 : Int32) (S : MS) : Prop :=
  post (v1 + v0) S
set_option maxHeartbeats 4000000 in
set_option maxRecDepth 100000 in
theorem M_endOf_a23 {p : Program} {l : Launch} {e : Env} {s : State} {m : MethodId} {args : Array Value} {below : List Frame} {meth : Method} {c : Code} {D : va_G} {dA : Nat → ClassId} {o : Nat → Nat} {A : Nat → Prop} {post : Int32 → MS → Prop} (C : mC p m c cX5_endOf 4 s args meth (Option.some Jvm.ClassFile.FieldType.int) A) {v0 : Int32} {v1 : Int32} {S : MS} (h : M_endOf_w23 post v0 v1 S) {H : Heap} {locs : List Loc} {ls : Array Slot} (hl : lv_has ls 4 [(0, .ref (o 0))]) (w : mw D dA o A s S H locs) : W p l e rM_endOf s m args below meth c H locs 0 0 (mQi below args s D dA o A post) (F0 m 23 ls [.int v0, .int v1]) := by
  unfold M_endOf_w23 at h
  obtain ⟨⟨hx, hb, hml, hown, hts⟩, hr, hlk, hA⟩ := id C
  refine lv_iadd hx hb dX5_endOf_23 ?_
  exact mr_iret C w h dX5_endOf_24
def M_endOf_w0 (post : Int32 → MS → Prop) (x1 : Int32) (x2 : Int32) (x3 : Int32) (S : MS) : Prop :=
  M_edgeOf x2 x3 S (fun (r1 : Int32) (S1 : MS) => ((x3 ≤ x2 → M_endOf_w23 post (1 : Int32) (((12 : Int32) * x1) + ((2 : Int32) * r1)) S1) ∧ (¬ x3 ≤ x2 → M_endOf_w23 post (0 : Int32) (((12 : Int32) * x1) + ((2 : Int32) * r1)) S1)))
set_option maxHeartbeats 4000000 in
set_option maxRecDepth 100000 in
theorem M_endOf_a0 {p : Program} {l : Launch} {e : Env} {s : State} {m : MethodId} {args : Array Value} {below : List Frame} {meth : Method} {c : Code} {D : va_G} {dA : Nat → ClassId} {o : Nat → Nat} {A : Nat → Prop} {post : Int32 → MS → Prop} (C : mC p m c cX5_endOf 4 s args meth (Option.some Jvm.ClassFile.FieldType.int) A) {x1 : Int32} {x2 : Int32} {x3 : Int32} {S : MS} (h : M_endOf_w0 post x1 x2 x3 S) {H : Heap} {locs : List Loc} {ls : Array Slot} (hl : lv_has ls 4 [(0, .ref (o 0)), (1, .int x1), (2, .int x2), (3, .int x3)]) (w : mw D dA o A s S H locs) : W p l e rM_endOf s m args below meth c H locs 0 0 (mQi below args s D dA o A post) (F0 m 0 ls []) := by
  unfold M_endOf_w0 at h
  obtain ⟨⟨hx, hb, hml, hown, hts⟩, hr, hlk, hA⟩ := id C
  refine lv_bipush (v := 12) hx hb dX5_endOf_0 (by decide) ?_
  refine lv_iload_n hx hb dX5_endOf_2 rfl (lv_at hl 1 rfl) ?_
  refine lv_imul hx hb dX5_endOf_3 ?_
  refine lv_iconst (v := 2) hx hb dX5_endOf_4 (by decide) ?_
  refine lv_aload_n hx hb dX5_endOf_5 rfl (lv_at hl 0 rfl) ?_
  refine lv_iload_n hx hb dX5_endOf_6 rfl (lv_at hl 2 rfl) ?_
  refine lv_iload_n hx hb dX5_endOf_7 rfl (lv_at hl 3 rfl) ?_
  refine mr_callVI (rest := [.int _, .int _]) C w h (lw_V q714 q716 qs41 q87 q717) M_edgeOf_d rfl rfl ⟨Nat.le_of_ble_eq_true rfl, Nat.le_of_ble_eq_true rfl⟩ rfl hl.1 rfl (Nat.le_of_ble_eq_true rfl) ⟨Nat.zero_le _, Nat.zero_le _⟩ dX5_endOf_8 (fun r1 S1 H locs h w => ?_)
  refine lv_imul hx hb dX5_endOf_11 ?_
  refine lv_iadd hx hb dX5_endOf_12 ?_
  refine lv_iload_n hx hb dX5_endOf_13 rfl (lv_at hl 2 rfl) ?_
  refine lv_iload_n hx hb dX5_endOf_14 rfl (lv_at hl 3 rfl) ?_
  obtain ⟨h1, h2⟩ := h
  refine lv_icmp_ge (tgt := 22) hx hb dX5_endOf_15 (by decide) (fun c1 => ?_) (fun c1 => ?_)
  · have h := h1 c1
    refine lv_iconst (v := 1) hx hb dX5_endOf_22 (by decide) ?_
    exact M_endOf_a23 C h (lv_sub hl [0] rfl) w
  · have h := h2 c1
    refine lv_iconst (v := 0) hx hb dX5_endOf_18 (by decide) ?_
    refine lv_goto (tgt := 23) hx hb dX5_endOf_19 (by decide) ?_
    exact M_endOf_a23 C h (lv_sub hl [0] rfl) w
def M_endOf_VC (x1 : Int32) (x2 : Int32) (x3 : Int32) (S : MS) (post : Int32 → MS → Prop) : Prop := M_endOf_w0 post x1 x2 x3 S
theorem M_endOf_ok {x1 : Int32} {x2 : Int32} {x3 : Int32} {S : MS} {post : Int32 → MS → Prop} (h : M_endOf_VC x1 x2 x3 S post) : M_endOf x1 x2 x3 S post := by
  intro l D dA o sz
  refine mr_start (fun A => va_Qi post (mB D dA o A) A) rfl (Nat.le_of_ble_eq_true rfl) (by decide) ?_
  intro p e s m args below meth c ls A C w hl
  have hl : lv_has ls 4 [(0, .ref (o 0)), (1, .int x1), (2, .int x2), (3, .int x3)] := hl
  exact M_endOf_a0 C h (lv_sub hl [0, 1, 2, 3] rfl) w

/-! lesser(II)I -/
def M_lesser_w10 (post : Int32 → MS → Prop) (v0 : Int32) (S : MS) : Prop :=
  post v0 S
set_option maxHeartbeats 4000000 in
set_option maxRecDepth 100000 in
theorem M_lesser_a10 {p : Program} {l : Launch} {e : Env} {s : State} {m : MethodId} {args : Array Value} {below : List Frame} {meth : Method} {c : Code} {D : va_G} {dA : Nat → ClassId} {o : Nat → Nat} {A : Nat → Prop} {post : Int32 → MS → Prop} (C : mC p m c cX5_lesser 2 s args meth (Option.some Jvm.ClassFile.FieldType.int) A) {v0 : Int32} {S : MS} (h : M_lesser_w10 post v0 S) {H : Heap} {locs : List Loc} {ls : Array Slot} (hl : lv_has ls 2 []) (w : mw D dA o A s S H locs) : W p l e rM_lesser s m args below meth c H locs 0 0 (mQi below args s D dA o A post) (F0 m 10 ls [.int v0]) := by
  unfold M_lesser_w10 at h
  obtain ⟨⟨hx, hb, hml, hown, hts⟩, hr, hlk, hA⟩ := id C
  exact mr_iret C w h dX5_lesser_10
def M_lesser_w0 (post : Int32 → MS → Prop) (x0 : Int32) (x1 : Int32) (S : MS) : Prop :=
  ((x1 ≤ x0 → M_lesser_w10 post x1 S) ∧ (¬ x1 ≤ x0 → M_lesser_w10 post x0 S))
set_option maxHeartbeats 4000000 in
set_option maxRecDepth 100000 in
theorem M_lesser_a0 {p : Program} {l : Launch} {e : Env} {s : State} {m : MethodId} {args : Array Value} {below : List Frame} {meth : Method} {c : Code} {D : va_G} {dA : Nat → ClassId} {o : Nat → Nat} {A : Nat → Prop} {post : Int32 → MS → Prop} (C : mC p m c cX5_lesser 2 s args meth (Option.some Jvm.ClassFile.FieldType.int) A) {x0 : Int32} {x1 : Int32} {S : MS} (h : M_lesser_w0 post x0 x1 S) {H : Heap} {locs : List Loc} {ls : Array Slot} (hl : lv_has ls 2 [(0, .int x0), (1, .int x1)]) (w : mw D dA o A s S H locs) : W p l e rM_lesser s m args below meth c H locs 0 0 (mQi below args s D dA o A post) (F0 m 0 ls []) := by
  unfold M_lesser_w0 at h
  obtain ⟨⟨hx, hb, hml, hown, hts⟩, hr, hlk, hA⟩ := id C
  refine lv_iload_n hx hb dX5_lesser_0 rfl (lv_at hl 0 rfl) ?_
  refine lv_iload_n hx hb dX5_lesser_1 rfl (lv_at hl 1 rfl) ?_
  obtain ⟨h1, h2⟩ := h
  refine lv_icmp_ge (tgt := 9) hx hb dX5_lesser_2 (by decide) (fun c1 => ?_) (fun c1 => ?_)
  · have h := h1 c1
    refine lv_iload_n hx hb dX5_lesser_9 rfl (lv_at hl 1 rfl) ?_
    exact M_lesser_a10 C h (lv_sub hl [] rfl) w
  · have h := h2 c1
    refine lv_iload_n hx hb dX5_lesser_5 rfl (lv_at hl 0 rfl) ?_
    refine lv_goto (tgt := 10) hx hb dX5_lesser_6 (by decide) ?_
    exact M_lesser_a10 C h (lv_sub hl [] rfl) w
def M_lesser_VC (x0 : Int32) (x1 : Int32) (S : MS) (post : Int32 → MS → Prop) : Prop := M_lesser_w0 post x0 x1 S
theorem M_lesser_ok {x0 : Int32} {x1 : Int32} {S : MS} {post : Int32 → MS → Prop} (h : M_lesser_VC x0 x1 S post) : M_lesser x0 x1 S post := by
  intro l D dA o sz
  refine mr_start (fun A => va_Qi post (mB D dA o A) A) rfl (Nat.le_of_ble_eq_true rfl) (by decide) ?_
  intro p e s m args below meth c ls A C w hl
  have hl : lv_has ls 2 [(0, .int x0), (1, .int x1)] := hl
  exact M_lesser_a0 C h (lv_sub hl [0, 1] rfl) w

/-! join6([III)V -/
def M_join6_w40 (post : MS → Prop) (v0 : Int32) (x2 : Int32) (x3 : Int32) (x4 : Int32) (S : MS) : Prop :=
  (zok v0 ∧ (fun (S1 : MS) => (vp_in x2 36 ∧ (fun (S2 : MS) => (vp_in x3 36 ∧ (fun (S3 : MS) => post S3) (sI S2 6 (x3).toNatClampNeg x4))) (sI S1 6 (x2).toNatClampNeg x4))) (sF S 9 v0))
set_option maxHeartbeats 4000000 in
set_option maxRecDepth 100000 in
theorem M_join6_a40 {p : Program} {l : Launch} {e : Env} {s : State} {m : MethodId} {args : Array Value} {below : List Frame} {meth : Method} {c : Code} {D : va_G} {dA : Nat → ClassId} {o : Nat → Nat} {A : Nat → Prop} {post : MS → Prop} (C : mC p m c cX5_join 5 s args meth (Option.none : Option Jvm.ClassFile.FieldType) A) {v0 : Int32} {x2 : Int32} {x3 : Int32} {x4 : Int32} {S : MS} (h : M_join6_w40 post v0 x2 x3 x4 S) {H : Heap} {locs : List Loc} {ls : Array Slot} (hl : lv_has ls 5 [(0, .ref (o 0)), (1, .ref (o 6)), (2, .int x2), (3, .int x3), (4, .int x4)]) (w : mw D dA o A s S H locs) : W p l e rM_join6 s m args below meth c H locs 0 0 (mQv below args s D dA o A post) (F0 m 40 ls [.int v0, .ref (o 0)]) := by
  unfold M_join6_w40 at h
  obtain ⟨⟨hx, hb, hml, hown, hts⟩, hr, hlk, hA⟩ := id C
  obtain ⟨hz, h⟩ := h
  refine mr_put (ty := .boolean) C w 9 (by decide) q586 rfl rfl (by decide +kernel) (zok_n hz) (zok_f hz) MWf_9 dX5_join_40 (fun H locs w => ?_)
  refine lv_aload_n hx hb dX5_join_43 rfl (lv_at hl 1 rfl) ?_
  refine lv_iload_n hx hb dX5_join_44 rfl (lv_at hl 2 rfl) ?_
  refine lv_iload hx hb dX5_join_45 (lv_at hl 4 rfl) ?_
  obtain ⟨hi, h⟩ := h
  refine mr_iast C w 6 5 rfl rfl hi MWs_6 dX5_join_47 (fun H locs w => ?_)
  refine lv_aload_n hx hb dX5_join_48 rfl (lv_at hl 1 rfl) ?_
  refine lv_iload_n hx hb dX5_join_49 rfl (lv_at hl 3 rfl) ?_
  refine lv_iload hx hb dX5_join_50 (lv_at hl 4 rfl) ?_
  obtain ⟨hi, h⟩ := h
  refine mr_iast C w 6 5 rfl rfl hi MWs_6 dX5_join_52 (fun H locs w => ?_)
  exact mr_vret C w h dX5_join_53
def M_join6_w35 (post : MS → Prop) (x2 : Int32) (x3 : Int32) (x4 : Int32) (S : MS) : Prop :=
  M_join6_w40 post (1 : Int32) x2 x3 x4 S
set_option maxHeartbeats 4000000 in
set_option maxRecDepth 100000 in
theorem M_join6_a35 {p : Program} {l : Launch} {e : Env} {s : State} {m : MethodId} {args : Array Value} {below : List Frame} {meth : Method} {c : Code} {D : va_G} {dA : Nat → ClassId} {o : Nat → Nat} {A : Nat → Prop} {post : MS → Prop} (C : mC p m c cX5_join 5 s args meth (Option.none : Option Jvm.ClassFile.FieldType) A) {x2 : Int32} {x3 : Int32} {x4 : Int32} {S : MS} (h : M_join6_w35 post x2 x3 x4 S) {H : Heap} {locs : List Loc} {ls : Array Slot} (hl : lv_has ls 5 [(0, .ref (o 0)), (1, .ref (o 6)), (2, .int x2), (3, .int x3), (4, .int x4)]) (w : mw D dA o A s S H locs) : W p l e rM_join6 s m args below meth c H locs 0 0 (mQv below args s D dA o A post) (F0 m 35 ls [.ref (o 0)]) := by
  unfold M_join6_w35 at h
  obtain ⟨⟨hx, hb, hml, hown, hts⟩, hr, hlk, hA⟩ := id C
  refine lv_iconst (v := 1) hx hb dX5_join_35 (by decide) ?_
  refine lv_goto (tgt := 40) hx hb dX5_join_36 (by decide) ?_
  exact M_join6_a40 C h (lv_sub hl [0, 1, 2, 3, 4] rfl) w
def M_join6_w0 (post : MS → Prop) (x2 : Int32) (x3 : Int32) (S : MS) : Prop :=
  (vp_in x2 36 ∧ (vp_in x3 36 ∧ M_lesser (gI S 6 (x2).toNatClampNeg) (gI S 6 (x3).toNatClampNeg) S (fun (r1 : Int32) (S1 : MS) => ((¬ (gF S1 9) = 0 → M_join6_w35 post x2 x3 r1 S1) ∧ ((gF S1 9) = 0 → (vp_in x2 36 ∧ ((¬ (gI S1 6 (x2).toNatClampNeg) = r1 → M_join6_w35 post x2 x3 r1 S1) ∧ ((gI S1 6 (x2).toNatClampNeg) = r1 → (vp_in x3 36 ∧ (((gI S1 6 (x3).toNatClampNeg) = r1 → M_join6_w40 post (0 : Int32) x2 x3 r1 S1) ∧ (¬ (gI S1 6 (x3).toNatClampNeg) = r1 → M_join6_w35 post x2 x3 r1 S1)))))))))))
set_option maxHeartbeats 4000000 in
set_option maxRecDepth 100000 in
theorem M_join6_a0 {p : Program} {l : Launch} {e : Env} {s : State} {m : MethodId} {args : Array Value} {below : List Frame} {meth : Method} {c : Code} {D : va_G} {dA : Nat → ClassId} {o : Nat → Nat} {A : Nat → Prop} {post : MS → Prop} (C : mC p m c cX5_join 5 s args meth (Option.none : Option Jvm.ClassFile.FieldType) A) {x2 : Int32} {x3 : Int32} {S : MS} (h : M_join6_w0 post x2 x3 S) {H : Heap} {locs : List Loc} {ls : Array Slot} (hl : lv_has ls 5 [(0, .ref (o 0)), (1, .ref (o 6)), (2, .int x2), (3, .int x3)]) (w : mw D dA o A s S H locs) : W p l e rM_join6 s m args below meth c H locs 0 0 (mQv below args s D dA o A post) (F0 m 0 ls []) := by
  unfold M_join6_w0 at h
  obtain ⟨⟨hx, hb, hml, hown, hts⟩, hr, hlk, hA⟩ := id C
  refine lv_aload_n hx hb dX5_join_0 rfl (lv_at hl 1 rfl) ?_
  refine lv_iload_n hx hb dX5_join_1 rfl (lv_at hl 2 rfl) ?_
  obtain ⟨hi, h⟩ := h
  refine mr_iald C w 6 5 rfl rfl hi dX5_join_2 ?_
  refine lv_aload_n hx hb dX5_join_3 rfl (lv_at hl 1 rfl) ?_
  refine lv_iload_n hx hb dX5_join_4 rfl (lv_at hl 3 rfl) ?_
  obtain ⟨hi, h⟩ := h
  refine mr_iald C w 6 5 rfl rfl hi dX5_join_5 ?_
  refine mr_callSI (rest := []) C w h (lw_S q707 q708 q87 q709) M_lesser_d rfl rfl ⟨Nat.le_of_ble_eq_true rfl, Nat.le_of_ble_eq_true rfl⟩ rfl hl.1 rfl (Nat.le_of_ble_eq_true rfl) ⟨Nat.zero_le _, Nat.zero_le _⟩ dX5_join_6 (fun r1 S1 H locs h w => ?_)
  refine lv_istore (lv' := [(4, .int _), (0, .ref _), (1, .ref _), (2, .int _), (3, .int _)]) hx hb dX5_join_9 hl (by decide) rfl (fun ls hl => ?_)
  refine lv_aload_n hx hb dX5_join_11 rfl (lv_at hl 1 rfl) ?_
  refine lv_aload_n hx hb dX5_join_12 rfl (lv_at hl 1 rfl) ?_
  refine mr_get C w 9 (by decide) q586 rfl rfl dX5_join_13 ?_
  obtain ⟨h1, h2⟩ := h
  refine lv_if_ne (tgt := 35) hx hb dX5_join_16 (by decide) (fun c1 => ?_) (fun c1 => ?_)
  · have h := h1 c1
    exact M_join6_a35 C h (lv_sub hl [1, 2, 3, 4, 0] rfl) w
  · have h := h2 c1
    refine lv_aload_n hx hb dX5_join_19 rfl (lv_at hl 2 rfl) ?_
    refine lv_iload_n hx hb dX5_join_20 rfl (lv_at hl 3 rfl) ?_
    obtain ⟨hi, h⟩ := h
    refine mr_iald C w 6 5 rfl rfl hi dX5_join_21 ?_
    refine lv_iload hx hb dX5_join_22 (lv_at hl 0 rfl) ?_
    obtain ⟨h1, h2⟩ := h
    refine lv_icmp_ne (tgt := 35) hx hb dX5_join_24 (by decide) (fun c1 => ?_) (fun c1 => ?_)
    · have h := h1 c1
      exact M_join6_a35 C h (lv_sub hl [1, 2, 3, 4, 0] rfl) w
    · have h := h2 c1
      refine lv_aload_n hx hb dX5_join_27 rfl (lv_at hl 2 rfl) ?_
      refine lv_iload_n hx hb dX5_join_28 rfl (lv_at hl 4 rfl) ?_
      obtain ⟨hi, h⟩ := h
      refine mr_iald C w 6 5 rfl rfl hi dX5_join_29 ?_
      refine lv_iload hx hb dX5_join_30 (lv_at hl 0 rfl) ?_
      obtain ⟨h1, h2⟩ := h
      refine lv_icmp_eq (tgt := 39) hx hb dX5_join_32 (by decide) (fun c1 => ?_) (fun c1 => ?_)
      · have h := h1 c1
        refine lv_iconst (v := 0) hx hb dX5_join_39 (by decide) ?_
        exact M_join6_a40 C h (lv_sub hl [1, 2, 3, 4, 0] rfl) w
      · have h := h2 c1
        exact M_join6_a35 C h (lv_sub hl [1, 2, 3, 4, 0] rfl) w
def M_join6_VC (x2 : Int32) (x3 : Int32) (S : MS) (post : MS → Prop) : Prop := M_join6_w0 post x2 x3 S
theorem M_join6_ok {x2 : Int32} {x3 : Int32} {S : MS} {post : MS → Prop} (h : M_join6_VC x2 x3 S post) : M_join6 x2 x3 S post := by
  intro l D dA o sz
  refine mr_start (fun A => va_Qv post (mB D dA o A) A) rfl (Nat.le_of_ble_eq_true rfl) (by decide) ?_
  intro p e s m args below meth c ls A C w hl
  have hl : lv_has ls 5 [(0, .ref (o 0)), (1, .ref (o 6)), (2, .int x2), (3, .int x3)] := hl
  exact M_join6_a0 C h (lv_sub hl [0, 1, 2, 3] rfl) w

/-! join7([III)V -/
def M_join7_w40 (post : MS → Prop) (v0 : Int32) (x2 : Int32) (x3 : Int32) (x4 : Int32) (S : MS) : Prop :=
  (zok v0 ∧ (fun (S1 : MS) => (vp_in x2 12 ∧ (fun (S2 : MS) => (vp_in x3 12 ∧ (fun (S3 : MS) => post S3) (sI S2 7 (x3).toNatClampNeg x4))) (sI S1 7 (x2).toNatClampNeg x4))) (sF S 9 v0))
set_option maxHeartbeats 4000000 in
set_option maxRecDepth 100000 in
theorem M_join7_a40 {p : Program} {l : Launch} {e : Env} {s : State} {m : MethodId} {args : Array Value} {below : List Frame} {meth : Method} {c : Code} {D : va_G} {dA : Nat → ClassId} {o : Nat → Nat} {A : Nat → Prop} {post : MS → Prop} (C : mC p m c cX5_join 5 s args meth (Option.none : Option Jvm.ClassFile.FieldType) A) {v0 : Int32} {x2 : Int32} {x3 : Int32} {x4 : Int32} {S : MS} (h : M_join7_w40 post v0 x2 x3 x4 S) {H : Heap} {locs : List Loc} {ls : Array Slot} (hl : lv_has ls 5 [(0, .ref (o 0)), (1, .ref (o 7)), (2, .int x2), (3, .int x3), (4, .int x4)]) (w : mw D dA o A s S H locs) : W p l e rM_join7 s m args below meth c H locs 0 0 (mQv below args s D dA o A post) (F0 m 40 ls [.int v0, .ref (o 0)]) := by
  unfold M_join7_w40 at h
  obtain ⟨⟨hx, hb, hml, hown, hts⟩, hr, hlk, hA⟩ := id C
  obtain ⟨hz, h⟩ := h
  refine mr_put (ty := .boolean) C w 9 (by decide) q586 rfl rfl (by decide +kernel) (zok_n hz) (zok_f hz) MWf_9 dX5_join_40 (fun H locs w => ?_)
  refine lv_aload_n hx hb dX5_join_43 rfl (lv_at hl 1 rfl) ?_
  refine lv_iload_n hx hb dX5_join_44 rfl (lv_at hl 2 rfl) ?_
  refine lv_iload hx hb dX5_join_45 (lv_at hl 4 rfl) ?_
  obtain ⟨hi, h⟩ := h
  refine mr_iast C w 7 6 rfl rfl hi MWs_7 dX5_join_47 (fun H locs w => ?_)
  refine lv_aload_n hx hb dX5_join_48 rfl (lv_at hl 1 rfl) ?_
  refine lv_iload_n hx hb dX5_join_49 rfl (lv_at hl 3 rfl) ?_
  refine lv_iload hx hb dX5_join_50 (lv_at hl 4 rfl) ?_
  obtain ⟨hi, h⟩ := h
  refine mr_iast C w 7 6 rfl rfl hi MWs_7 dX5_join_52 (fun H locs w => ?_)
  exact mr_vret C w h dX5_join_53
def M_join7_w35 (post : MS → Prop) (x2 : Int32) (x3 : Int32) (x4 : Int32) (S : MS) : Prop :=
  M_join7_w40 post (1 : Int32) x2 x3 x4 S
set_option maxHeartbeats 4000000 in
set_option maxRecDepth 100000 in
theorem M_join7_a35 {p : Program} {l : Launch} {e : Env} {s : State} {m : MethodId} {args : Array Value} {below : List Frame} {meth : Method} {c : Code} {D : va_G} {dA : Nat → ClassId} {o : Nat → Nat} {A : Nat → Prop} {post : MS → Prop} (C : mC p m c cX5_join 5 s args meth (Option.none : Option Jvm.ClassFile.FieldType) A) {x2 : Int32} {x3 : Int32} {x4 : Int32} {S : MS} (h : M_join7_w35 post x2 x3 x4 S) {H : Heap} {locs : List Loc} {ls : Array Slot} (hl : lv_has ls 5 [(0, .ref (o 0)), (1, .ref (o 7)), (2, .int x2), (3, .int x3), (4, .int x4)]) (w : mw D dA o A s S H locs) : W p l e rM_join7 s m args below meth c H locs 0 0 (mQv below args s D dA o A post) (F0 m 35 ls [.ref (o 0)]) := by
  unfold M_join7_w35 at h
  obtain ⟨⟨hx, hb, hml, hown, hts⟩, hr, hlk, hA⟩ := id C
  refine lv_iconst (v := 1) hx hb dX5_join_35 (by decide) ?_
  refine lv_goto (tgt := 40) hx hb dX5_join_36 (by decide) ?_
  exact M_join7_a40 C h (lv_sub hl [0, 1, 2, 3, 4] rfl) w
def M_join7_w0 (post : MS → Prop) (x2 : Int32) (x3 : Int32) (S : MS) : Prop :=
  (vp_in x2 12 ∧ (vp_in x3 12 ∧ M_lesser (gI S 7 (x2).toNatClampNeg) (gI S 7 (x3).toNatClampNeg) S (fun (r1 : Int32) (S1 : MS) => ((¬ (gF S1 9) = 0 → M_join7_w35 post x2 x3 r1 S1) ∧ ((gF S1 9) = 0 → (vp_in x2 12 ∧ ((¬ (gI S1 7 (x2).toNatClampNeg) = r1 → M_join7_w35 post x2 x3 r1 S1) ∧ ((gI S1 7 (x2).toNatClampNeg) = r1 → (vp_in x3 12 ∧ (((gI S1 7 (x3).toNatClampNeg) = r1 → M_join7_w40 post (0 : Int32) x2 x3 r1 S1) ∧ (¬ (gI S1 7 (x3).toNatClampNeg) = r1 → M_join7_w35 post x2 x3 r1 S1)))))))))))
set_option maxHeartbeats 4000000 in
set_option maxRecDepth 100000 in
theorem M_join7_a0 {p : Program} {l : Launch} {e : Env} {s : State} {m : MethodId} {args : Array Value} {below : List Frame} {meth : Method} {c : Code} {D : va_G} {dA : Nat → ClassId} {o : Nat → Nat} {A : Nat → Prop} {post : MS → Prop} (C : mC p m c cX5_join 5 s args meth (Option.none : Option Jvm.ClassFile.FieldType) A) {x2 : Int32} {x3 : Int32} {S : MS} (h : M_join7_w0 post x2 x3 S) {H : Heap} {locs : List Loc} {ls : Array Slot} (hl : lv_has ls 5 [(0, .ref (o 0)), (1, .ref (o 7)), (2, .int x2), (3, .int x3)]) (w : mw D dA o A s S H locs) : W p l e rM_join7 s m args below meth c H locs 0 0 (mQv below args s D dA o A post) (F0 m 0 ls []) := by
  unfold M_join7_w0 at h
  obtain ⟨⟨hx, hb, hml, hown, hts⟩, hr, hlk, hA⟩ := id C
  refine lv_aload_n hx hb dX5_join_0 rfl (lv_at hl 1 rfl) ?_
  refine lv_iload_n hx hb dX5_join_1 rfl (lv_at hl 2 rfl) ?_
  obtain ⟨hi, h⟩ := h
  refine mr_iald C w 7 6 rfl rfl hi dX5_join_2 ?_
  refine lv_aload_n hx hb dX5_join_3 rfl (lv_at hl 1 rfl) ?_
  refine lv_iload_n hx hb dX5_join_4 rfl (lv_at hl 3 rfl) ?_
  obtain ⟨hi, h⟩ := h
  refine mr_iald C w 7 6 rfl rfl hi dX5_join_5 ?_
  refine mr_callSI (rest := []) C w h (lw_S q707 q708 q87 q709) M_lesser_d rfl rfl ⟨Nat.le_of_ble_eq_true rfl, Nat.le_of_ble_eq_true rfl⟩ rfl hl.1 rfl (Nat.le_of_ble_eq_true rfl) ⟨Nat.zero_le _, Nat.zero_le _⟩ dX5_join_6 (fun r1 S1 H locs h w => ?_)
  refine lv_istore (lv' := [(4, .int _), (0, .ref _), (1, .ref _), (2, .int _), (3, .int _)]) hx hb dX5_join_9 hl (by decide) rfl (fun ls hl => ?_)
  refine lv_aload_n hx hb dX5_join_11 rfl (lv_at hl 1 rfl) ?_
  refine lv_aload_n hx hb dX5_join_12 rfl (lv_at hl 1 rfl) ?_
  refine mr_get C w 9 (by decide) q586 rfl rfl dX5_join_13 ?_
  obtain ⟨h1, h2⟩ := h
  refine lv_if_ne (tgt := 35) hx hb dX5_join_16 (by decide) (fun c1 => ?_) (fun c1 => ?_)
  · have h := h1 c1
    exact M_join7_a35 C h (lv_sub hl [1, 2, 3, 4, 0] rfl) w
  · have h := h2 c1
    refine lv_aload_n hx hb dX5_join_19 rfl (lv_at hl 2 rfl) ?_
    refine lv_iload_n hx hb dX5_join_20 rfl (lv_at hl 3 rfl) ?_
    obtain ⟨hi, h⟩ := h
    refine mr_iald C w 7 6 rfl rfl hi dX5_join_21 ?_
    refine lv_iload hx hb dX5_join_22 (lv_at hl 0 rfl) ?_
    obtain ⟨h1, h2⟩ := h
    refine lv_icmp_ne (tgt := 35) hx hb dX5_join_24 (by decide) (fun c1 => ?_) (fun c1 => ?_)
    · have h := h1 c1
      exact M_join7_a35 C h (lv_sub hl [1, 2, 3, 4, 0] rfl) w
    · have h := h2 c1
      refine lv_aload_n hx hb dX5_join_27 rfl (lv_at hl 2 rfl) ?_
      refine lv_iload_n hx hb dX5_join_28 rfl (lv_at hl 4 rfl) ?_
      obtain ⟨hi, h⟩ := h
      refine mr_iald C w 7 6 rfl rfl hi dX5_join_29 ?_
      refine lv_iload hx hb dX5_join_30 (lv_at hl 0 rfl) ?_
      obtain ⟨h1, h2⟩ := h
      refine lv_icmp_eq (tgt := 39) hx hb dX5_join_32 (by decide) (fun c1 => ?_) (fun c1 => ?_)
      · have h := h1 c1
        refine lv_iconst (v := 0) hx hb dX5_join_39 (by decide) ?_
        exact M_join7_a40 C h (lv_sub hl [1, 2, 3, 4, 0] rfl) w
      · have h := h2 c1
        exact M_join7_a35 C h (lv_sub hl [1, 2, 3, 4, 0] rfl) w
def M_join7_VC (x2 : Int32) (x3 : Int32) (S : MS) (post : MS → Prop) : Prop := M_join7_w0 post x2 x3 S
theorem M_join7_ok {x2 : Int32} {x3 : Int32} {S : MS} {post : MS → Prop} (h : M_join7_VC x2 x3 S post) : M_join7 x2 x3 S post := by
  intro l D dA o sz
  refine mr_start (fun A => va_Qv post (mB D dA o A) A) rfl (Nat.le_of_ble_eq_true rfl) (by decide) ?_
  intro p e s m args below meth c ls A C w hl
  have hl : lv_has ls 5 [(0, .ref (o 0)), (1, .ref (o 7)), (2, .int x2), (3, .int x3)] := hl
  exact M_join7_a0 C h (lv_sub hl [0, 1, 2, 3] rfl) w

/-! join8([III)V -/
def M_join8_w40 (post : MS → Prop) (v0 : Int32) (x2 : Int32) (x3 : Int32) (x4 : Int32) (S : MS) : Prop :=
  (zok v0 ∧ (fun (S1 : MS) => (vp_in x2 3 ∧ (fun (S2 : MS) => (vp_in x3 3 ∧ (fun (S3 : MS) => post S3) (sI S2 8 (x3).toNatClampNeg x4))) (sI S1 8 (x2).toNatClampNeg x4))) (sF S 9 v0))
set_option maxHeartbeats 4000000 in
set_option maxRecDepth 100000 in
theorem M_join8_a40 {p : Program} {l : Launch} {e : Env} {s : State} {m : MethodId} {args : Array Value} {below : List Frame} {meth : Method} {c : Code} {D : va_G} {dA : Nat → ClassId} {o : Nat → Nat} {A : Nat → Prop} {post : MS → Prop} (C : mC p m c cX5_join 5 s args meth (Option.none : Option Jvm.ClassFile.FieldType) A) {v0 : Int32} {x2 : Int32} {x3 : Int32} {x4 : Int32} {S : MS} (h : M_join8_w40 post v0 x2 x3 x4 S) {H : Heap} {locs : List Loc} {ls : Array Slot} (hl : lv_has ls 5 [(0, .ref (o 0)), (1, .ref (o 8)), (2, .int x2), (3, .int x3), (4, .int x4)]) (w : mw D dA o A s S H locs) : W p l e rM_join8 s m args below meth c H locs 0 0 (mQv below args s D dA o A post) (F0 m 40 ls [.int v0, .ref (o 0)]) := by
  unfold M_join8_w40 at h
  obtain ⟨⟨hx, hb, hml, hown, hts⟩, hr, hlk, hA⟩ := id C
  obtain ⟨hz, h⟩ := h
  refine mr_put (ty := .boolean) C w 9 (by decide) q586 rfl rfl (by decide +kernel) (zok_n hz) (zok_f hz) MWf_9 dX5_join_40 (fun H locs w => ?_)
  refine lv_aload_n hx hb dX5_join_43 rfl (lv_at hl 1 rfl) ?_
  refine lv_iload_n hx hb dX5_join_44 rfl (lv_at hl 2 rfl) ?_
  refine lv_iload hx hb dX5_join_45 (lv_at hl 4 rfl) ?_
  obtain ⟨hi, h⟩ := h
  refine mr_iast C w 8 7 rfl rfl hi MWs_8 dX5_join_47 (fun H locs w => ?_)
  refine lv_aload_n hx hb dX5_join_48 rfl (lv_at hl 1 rfl) ?_
  refine lv_iload_n hx hb dX5_join_49 rfl (lv_at hl 3 rfl) ?_
  refine lv_iload hx hb dX5_join_50 (lv_at hl 4 rfl) ?_
  obtain ⟨hi, h⟩ := h
  refine mr_iast C w 8 7 rfl rfl hi MWs_8 dX5_join_52 (fun H locs w => ?_)
  exact mr_vret C w h dX5_join_53
def M_join8_w35 (post : MS → Prop) (x2 : Int32) (x3 : Int32) (x4 : Int32) (S : MS) : Prop :=
  M_join8_w40 post (1 : Int32) x2 x3 x4 S
set_option maxHeartbeats 4000000 in
set_option maxRecDepth 100000 in
theorem M_join8_a35 {p : Program} {l : Launch} {e : Env} {s : State} {m : MethodId} {args : Array Value} {below : List Frame} {meth : Method} {c : Code} {D : va_G} {dA : Nat → ClassId} {o : Nat → Nat} {A : Nat → Prop} {post : MS → Prop} (C : mC p m c cX5_join 5 s args meth (Option.none : Option Jvm.ClassFile.FieldType) A) {x2 : Int32} {x3 : Int32} {x4 : Int32} {S : MS} (h : M_join8_w35 post x2 x3 x4 S) {H : Heap} {locs : List Loc} {ls : Array Slot} (hl : lv_has ls 5 [(0, .ref (o 0)), (1, .ref (o 8)), (2, .int x2), (3, .int x3), (4, .int x4)]) (w : mw D dA o A s S H locs) : W p l e rM_join8 s m args below meth c H locs 0 0 (mQv below args s D dA o A post) (F0 m 35 ls [.ref (o 0)]) := by
  unfold M_join8_w35 at h
  obtain ⟨⟨hx, hb, hml, hown, hts⟩, hr, hlk, hA⟩ := id C
  refine lv_iconst (v := 1) hx hb dX5_join_35 (by decide) ?_
  refine lv_goto (tgt := 40) hx hb dX5_join_36 (by decide) ?_
  exact M_join8_a40 C h (lv_sub hl [0, 1, 2, 3, 4] rfl) w
def M_join8_w0 (post : MS → Prop) (x2 : Int32) (x3 : Int32) (S : MS) : Prop :=
  (vp_in x2 3 ∧ (vp_in x3 3 ∧ M_lesser (gI S 8 (x2).toNatClampNeg) (gI S 8 (x3).toNatClampNeg) S (fun (r1 : Int32) (S1 : MS) => ((¬ (gF S1 9) = 0 → M_join8_w35 post x2 x3 r1 S1) ∧ ((gF S1 9) = 0 → (vp_in x2 3 ∧ ((¬ (gI S1 8 (x2).toNatClampNeg) = r1 → M_join8_w35 post x2 x3 r1 S1) ∧ ((gI S1 8 (x2).toNatClampNeg) = r1 → (vp_in x3 3 ∧ (((gI S1 8 (x3).toNatClampNeg) = r1 → M_join8_w40 post (0 : Int32) x2 x3 r1 S1) ∧ (¬ (gI S1 8 (x3).toNatClampNeg) = r1 → M_join8_w35 post x2 x3 r1 S1)))))))))))
set_option maxHeartbeats 4000000 in
set_option maxRecDepth 100000 in
theorem M_join8_a0 {p : Program} {l : Launch} {e : Env} {s : State} {m : MethodId} {args : Array Value} {below : List Frame} {meth : Method} {c : Code} {D : va_G} {dA : Nat → ClassId} {o : Nat → Nat} {A : Nat → Prop} {post : MS → Prop} (C : mC p m c cX5_join 5 s args meth (Option.none : Option Jvm.ClassFile.FieldType) A) {x2 : Int32} {x3 : Int32} {S : MS} (h : M_join8_w0 post x2 x3 S) {H : Heap} {locs : List Loc} {ls : Array Slot} (hl : lv_has ls 5 [(0, .ref (o 0)), (1, .ref (o 8)), (2, .int x2), (3, .int x3)]) (w : mw D dA o A s S H locs) : W p l e rM_join8 s m args below meth c H locs 0 0 (mQv below args s D dA o A post) (F0 m 0 ls []) := by
  unfold M_join8_w0 at h
  obtain ⟨⟨hx, hb, hml, hown, hts⟩, hr, hlk, hA⟩ := id C
  refine lv_aload_n hx hb dX5_join_0 rfl (lv_at hl 1 rfl) ?_
  refine lv_iload_n hx hb dX5_join_1 rfl (lv_at hl 2 rfl) ?_
  obtain ⟨hi, h⟩ := h
  refine mr_iald C w 8 7 rfl rfl hi dX5_join_2 ?_
  refine lv_aload_n hx hb dX5_join_3 rfl (lv_at hl 1 rfl) ?_
  refine lv_iload_n hx hb dX5_join_4 rfl (lv_at hl 3 rfl) ?_
  obtain ⟨hi, h⟩ := h
  refine mr_iald C w 8 7 rfl rfl hi dX5_join_5 ?_
  refine mr_callSI (rest := []) C w h (lw_S q707 q708 q87 q709) M_lesser_d rfl rfl ⟨Nat.le_of_ble_eq_true rfl, Nat.le_of_ble_eq_true rfl⟩ rfl hl.1 rfl (Nat.le_of_ble_eq_true rfl) ⟨Nat.zero_le _, Nat.zero_le _⟩ dX5_join_6 (fun r1 S1 H locs h w => ?_)
  refine lv_istore (lv' := [(4, .int _), (0, .ref _), (1, .ref _), (2, .int _), (3, .int _)]) hx hb dX5_join_9 hl (by decide) rfl (fun ls hl => ?_)
  refine lv_aload_n hx hb dX5_join_11 rfl (lv_at hl 1 rfl) ?_
  refine lv_aload_n hx hb dX5_join_12 rfl (lv_at hl 1 rfl) ?_
  refine mr_get C w 9 (by decide) q586 rfl rfl dX5_join_13 ?_
  obtain ⟨h1, h2⟩ := h
  refine lv_if_ne (tgt := 35) hx hb dX5_join_16 (by decide) (fun c1 => ?_) (fun c1 => ?_)
  · have h := h1 c1
    exact M_join8_a35 C h (lv_sub hl [1, 2, 3, 4, 0] rfl) w
  · have h := h2 c1
    refine lv_aload_n hx hb dX5_join_19 rfl (lv_at hl 2 rfl) ?_
    refine lv_iload_n hx hb dX5_join_20 rfl (lv_at hl 3 rfl) ?_
    obtain ⟨hi, h⟩ := h
    refine mr_iald C w 8 7 rfl rfl hi dX5_join_21 ?_
    refine lv_iload hx hb dX5_join_22 (lv_at hl 0 rfl) ?_
    obtain ⟨h1, h2⟩ := h
    refine lv_icmp_ne (tgt := 35) hx hb dX5_join_24 (by decide) (fun c1 => ?_) (fun c1 => ?_)
    · have h := h1 c1
      exact M_join8_a35 C h (lv_sub hl [1, 2, 3, 4, 0] rfl) w
    · have h := h2 c1
      refine lv_aload_n hx hb dX5_join_27 rfl (lv_at hl 2 rfl) ?_
      refine lv_iload_n hx hb dX5_join_28 rfl (lv_at hl 4 rfl) ?_
      obtain ⟨hi, h⟩ := h
      refine mr_iald C w 8 7 rfl rfl hi dX5_join_29 ?_
      refine lv_iload hx hb dX5_join_30 (lv_at hl 0 rfl) ?_
      obtain ⟨h1, h2⟩ := h
      refine lv_icmp_eq (tgt := 39) hx hb dX5_join_32 (by decide) (fun c1 => ?_) (fun c1 => ?_)
      · have h := h1 c1
        refine lv_iconst (v := 0) hx hb dX5_join_39 (by decide) ?_
        exact M_join8_a40 C h (lv_sub hl [1, 2, 3, 4, 0] rfl) w
      · have h := h2 c1
        exact M_join8_a35 C h (lv_sub hl [1, 2, 3, 4, 0] rfl) w
def M_join8_VC (x2 : Int32) (x3 : Int32) (S : MS) (post : MS → Prop) : Prop := M_join8_w0 post x2 x3 S
theorem M_join8_ok {x2 : Int32} {x3 : Int32} {S : MS} {post : MS → Prop} (h : M_join8_VC x2 x3 S post) : M_join8 x2 x3 S post := by
  intro l D dA o sz
  refine mr_start (fun A => va_Qv post (mB D dA o A) A) rfl (Nat.le_of_ble_eq_true rfl) (by decide) ?_
  intro p e s m args below meth c ls A C w hl
  have hl : lv_has ls 5 [(0, .ref (o 0)), (1, .ref (o 8)), (2, .int x2), (3, .int x3)] := hl
  exact M_join8_a0 C h (lv_sub hl [0, 1, 2, 3] rfl) w

/-! joinSide(I)V -/
def M_joinSide_w146 (post : MS → Prop) (T26 : Int32 → Int32 → Int32 → Int32 → MS → Prop) (T75 : Int32 → Int32 → Int32 → Int32 → Int32 → MS → Prop) (x1 : Int32) (x2 : Int32) (x3 : Int32) (x4 : Int32) (S : MS) : Prop :=
  T26 x1 x2 x3 (x4 + (1 : Int32)) S
set_option maxHeartbeats 4000000 in
set_option maxRecDepth 100000 in
theorem M_joinSide_a146 {p : Program} {l : Launch} {e : Env} {s : State} {m : MethodId} {args : Array Value} {below : List Frame} {meth : Method} {c : Code} {D : va_G} {dA : Nat → ClassId} {o : Nat → Nat} {A : Nat → Prop} {post : MS → Prop} {T26 : Int32 → Int32 → Int32 → Int32 → MS → Prop} {T75 : Int32 → Int32 → Int32 → Int32 → Int32 → MS → Prop} (C : mC p m c cX5_joinSide 6 s args meth (Option.none : Option Jvm.ClassFile.FieldType) A) (hT26 : ∀ (x1 : Int32) (x2 : Int32) (x3 : Int32) (x4 : Int32) (S : MS), T26 x1 x2 x3 x4 S → ∀ (H : Heap) (locs : List Loc) (ls : Array Slot), lv_has ls 6 [(0, .ref (o 0)), (1, .int x1), (2, .int x2), (3, .int x3), (4, .int x4)] → mw D dA o A s S H locs → W p l e rM_joinSide s m args below meth c H locs 0 0 (mQv below args s D dA o A post) (F0 m 26 ls [])) (hT75 : ∀ (x1 : Int32) (x2 : Int32) (x3 : Int32) (x4 : Int32) (x5 : Int32) (S : MS), T75 x1 x2 x3 x4 x5 S → ∀ (H : Heap) (locs : List Loc) (ls : Array Slot), lv_has ls 6 [(0, .ref (o 0)), (1, .int x1), (2, .int x2), (3, .int x3), (4, .int x4), (5, .int x5)] → mw D dA o A s S H locs → W p l e rM_joinSide s m args below meth c H locs 0 0 (mQv below args s D dA o A post) (F0 m 75 ls [])) {x1 : Int32} {x2 : Int32} {x3 : Int32} {x4 : Int32} {S : MS} (h : M_joinSide_w146 post T26 T75 x1 x2 x3 x4 S) {H : Heap} {locs : List Loc} {ls : Array Slot} (hl : lv_has ls 6 [(0, .ref (o 0)), (1, .int x1), (2, .int x2), (3, .int x3), (4, .int x4)]) (w : mw D dA o A s S H locs) : W p l e rM_joinSide s m args below meth c H locs 0 0 (mQv below args s D dA o A post) (F0 m 146 ls []) := by
  unfold M_joinSide_w146 at h
  obtain ⟨⟨hx, hb, hml, hown, hts⟩, hr, hlk, hA⟩ := id C
  refine lv_iinc (v := _ + (1 : Int32)) (lv' := [(4, .int _), (0, .ref _), (1, .int _), (2, .int _), (3, .int _)]) hx hb dX5_joinSide_146 hl (k := 4) rfl rfl (by decide) rfl (fun ls hl => ?_)
  refine lv_goto (tgt := 26) hx hb dX5_joinSide_149 (by decide) ?_
  exact hT26 _ _ _ _ _ h _ _ _ (lv_sub hl [1, 2, 3, 4, 0] rfl) w
def M_joinSide_w140 (post : MS → Prop) (T26 : Int32 → Int32 → Int32 → Int32 → MS → Prop) (T75 : Int32 → Int32 → Int32 → Int32 → Int32 → MS → Prop) (x1 : Int32) (x2 : Int32) (x3 : Int32) (x4 : Int32) (x5 : Int32) (S : MS) : Prop :=
  T75 x1 x2 x3 x4 (x5 + (1 : Int32)) S
set_option maxHeartbeats 4000000 in
set_option maxRecDepth 100000 in
theorem M_joinSide_a140 {p : Program} {l : Launch} {e : Env} {s : State} {m : MethodId} {args : Array Value} {below : List Frame} {meth : Method} {c : Code} {D : va_G} {dA : Nat → ClassId} {o : Nat → Nat} {A : Nat → Prop} {post : MS → Prop} {T26 : Int32 → Int32 → Int32 → Int32 → MS → Prop} {T75 : Int32 → Int32 → Int32 → Int32 → Int32 → MS → Prop} (C : mC p m c cX5_joinSide 6 s args meth (Option.none : Option Jvm.ClassFile.FieldType) A) (hT26 : ∀ (x1 : Int32) (x2 : Int32) (x3 : Int32) (x4 : Int32) (S : MS), T26 x1 x2 x3 x4 S → ∀ (H : Heap) (locs : List Loc) (ls : Array Slot), lv_has ls 6 [(0, .ref (o 0)), (1, .int x1), (2, .int x2), (3, .int x3), (4, .int x4)] → mw D dA o A s S H locs → W p l e rM_joinSide s m args below meth c H locs 0 0 (mQv below args s D dA o A post) (F0 m 26 ls [])) (hT75 : ∀ (x1 : Int32) (x2 : Int32) (x3 : Int32) (x4 : Int32) (x5 : Int32) (S : MS), T75 x1 x2 x3 x4 x5 S → ∀ (H : Heap) (locs : List Loc) (ls : Array Slot), lv_has ls 6 [(0, .ref (o 0)), (1, .int x1), (2, .int x2), (3, .int x3), (4, .int x4), (5, .int x5)] → mw D dA o A s S H locs → W p l e rM_joinSide s m args below meth c H locs 0 0 (mQv below args s D dA o A post) (F0 m 75 ls [])) {x1 : Int32} {x2 : Int32} {x3 : Int32} {x4 : Int32} {x5 : Int32} {S : MS} (h : M_joinSide_w140 post T26 T75 x1 x2 x3 x4 x5 S) {H : Heap} {locs : List Loc} {ls : Array Slot} (hl : lv_has ls 6 [(0, .ref (o 0)), (1, .int x1), (2, .int x2), (3, .int x3), (4, .int x4), (5, .int x5)]) (w : mw D dA o A s S H locs) : W p l e rM_joinSide s m args below meth c H locs 0 0 (mQv below args s D dA o A post) (F0 m 140 ls []) := by
  unfold M_joinSide_w140 at h
  obtain ⟨⟨hx, hb, hml, hown, hts⟩, hr, hlk, hA⟩ := id C
  refine lv_iinc (v := _ + (1 : Int32)) (lv' := [(5, .int _), (0, .ref _), (1, .int _), (2, .int _), (3, .int _), (4, .int _)]) hx hb dX5_joinSide_140 hl (k := 5) rfl rfl (by decide) rfl (fun ls hl => ?_)
  refine lv_goto (tgt := 75) hx hb dX5_joinSide_143 (by decide) ?_
  exact hT75 _ _ _ _ _ _ h _ _ _ (lv_sub hl [1, 2, 3, 4, 5, 0] rfl) w
def M_joinSide_w75 (post : MS → Prop) (T26 : Int32 → Int32 → Int32 → Int32 → MS → Prop) (T75 : Int32 → Int32 → Int32 → Int32 → Int32 → MS → Prop) (x1 : Int32) (x2 : Int32) (x3 : Int32) (x4 : Int32) (x5 : Int32) (S : MS) : Prop :=
  (((4 : Int32) ≤ x5 → M_joinSide_w146 post T26 T75 x1 x2 x3 x4 S) ∧ (¬ (4 : Int32) ≤ x5 → ((x5 = x4 → M_joinSide_w140 post T26 T75 x1 x2 x3 x4 x5 S) ∧ (¬ x5 = x4 → ((x5 = (x1 - x1 / (4 : Int32) * (4 : Int32)) → M_joinSide_w140 post T26 T75 x1 x2 x3 x4 x5 S) ∧ (¬ x5 = (x1 - x1 / (4 : Int32) * (4 : Int32)) → M_endOf x2 x4 x5 S (fun (r1 : Int32) (S1 : MS) => (vp_in (((4 : Int32) * x1) + x4) 48 ∧ (vp_in (((4 : Int32) * x1) + x5) 48 ∧ M_endOf x3 (gI S1 2 ((((4 : Int32) * x1) + x4)).toNatClampNeg) (gI S1 2 ((((4 : Int32) * x1) + x5)).toNatClampNeg) S1 (fun (r2 : Int32) (S2 : MS) => M_join6 r1 r2 S2 (fun (S3 : MS) => M_joinSide_w140 post T26 T75 x1 x2 x3 x4 x5 S3)))))))))))
set_option maxHeartbeats 4000000 in
set_option maxRecDepth 100000 in
theorem M_joinSide_a75 {p : Program} {l : Launch} {e : Env} {s : State} {m : MethodId} {args : Array Value} {below : List Frame} {meth : Method} {c : Code} {D : va_G} {dA : Nat → ClassId} {o : Nat → Nat} {A : Nat → Prop} {post : MS → Prop} {T26 : Int32 → Int32 → Int32 → Int32 → MS → Prop} {T75 : Int32 → Int32 → Int32 → Int32 → Int32 → MS → Prop} (C : mC p m c cX5_joinSide 6 s args meth (Option.none : Option Jvm.ClassFile.FieldType) A) (hT26 : ∀ (x1 : Int32) (x2 : Int32) (x3 : Int32) (x4 : Int32) (S : MS), T26 x1 x2 x3 x4 S → ∀ (H : Heap) (locs : List Loc) (ls : Array Slot), lv_has ls 6 [(0, .ref (o 0)), (1, .int x1), (2, .int x2), (3, .int x3), (4, .int x4)] → mw D dA o A s S H locs → W p l e rM_joinSide s m args below meth c H locs 0 0 (mQv below args s D dA o A post) (F0 m 26 ls [])) (hT75 : ∀ (x1 : Int32) (x2 : Int32) (x3 : Int32) (x4 : Int32) (x5 : Int32) (S : MS), T75 x1 x2 x3 x4 x5 S → ∀ (H : Heap) (locs : List Loc) (ls : Array Slot), lv_has ls 6 [(0, .ref (o 0)), (1, .int x1), (2, .int x2), (3, .int x3), (4, .int x4), (5, .int x5)] → mw D dA o A s S H locs → W p l e rM_joinSide s m args below meth c H locs 0 0 (mQv below args s D dA o A post) (F0 m 75 ls [])) {x1 : Int32} {x2 : Int32} {x3 : Int32} {x4 : Int32} {x5 : Int32} {S : MS} (h : M_joinSide_w75 post T26 T75 x1 x2 x3 x4 x5 S) {H : Heap} {locs : List Loc} {ls : Array Slot} (hl : lv_has ls 6 [(0, .ref (o 0)), (1, .int x1), (2, .int x2), (3, .int x3), (4, .int x4), (5, .int x5)]) (w : mw D dA o A s S H locs) : W p l e rM_joinSide s m args below meth c H locs 0 0 (mQv below args s D dA o A post) (F0 m 75 ls []) := by
  unfold M_joinSide_w75 at h
  obtain ⟨⟨hx, hb, hml, hown, hts⟩, hr, hlk, hA⟩ := id C
  refine lv_iload hx hb dX5_joinSide_75 (lv_at hl 5 rfl) ?_
  refine lv_iconst (v := 4) hx hb dX5_joinSide_77 (by decide) ?_
  obtain ⟨h1, h2⟩ := h
  refine lv_icmp_ge (tgt := 146) hx hb dX5_joinSide_78 (by decide) (fun c1 => ?_) (fun c1 => ?_)
  · have h := h1 c1
    exact M_joinSide_a146 C hT26 hT75 h (lv_sub hl [0, 1, 2, 3, 4] rfl) w
  · have h := h2 c1
    refine lv_iload hx hb dX5_joinSide_81 (lv_at hl 5 rfl) ?_
    refine lv_iload hx hb dX5_joinSide_83 (lv_at hl 4 rfl) ?_
    obtain ⟨h1, h2⟩ := h
    refine lv_icmp_eq (tgt := 140) hx hb dX5_joinSide_85 (by decide) (fun c1 => ?_) (fun c1 => ?_)
    · have h := h1 c1
      exact M_joinSide_a140 C hT26 hT75 h (lv_sub hl [0, 1, 2, 3, 4, 5] rfl) w
    · have h := h2 c1
      refine lv_iload hx hb dX5_joinSide_88 (lv_at hl 5 rfl) ?_
      refine lv_iload_n hx hb dX5_joinSide_90 rfl (lv_at hl 1 rfl) ?_
      refine lv_iconst (v := 4) hx hb dX5_joinSide_91 (by decide) ?_
      refine lv_irem hx hb dX5_joinSide_92 (by decide) ?_
      obtain ⟨h1, h2⟩ := h
      refine lv_icmp_eq (tgt := 140) hx hb dX5_joinSide_93 (by decide) (fun c1 => ?_) (fun c1 => ?_)
      · have h := h1 c1
        exact M_joinSide_a140 C hT26 hT75 h (lv_sub hl [0, 1, 2, 3, 4, 5] rfl) w
      · have h := h2 c1
        refine lv_aload_n hx hb dX5_joinSide_96 rfl (lv_at hl 0 rfl) ?_
        refine lv_aload_n hx hb dX5_joinSide_97 rfl (lv_at hl 0 rfl) ?_
        refine mr_get C w 6 (by decide) q583 rfl rfl dX5_joinSide_98 ?_
        refine lv_aload_n hx hb dX5_joinSide_101 rfl (lv_at hl 0 rfl) ?_
        refine lv_iload_n hx hb dX5_joinSide_102 rfl (lv_at hl 2 rfl) ?_
        refine lv_iload hx hb dX5_joinSide_103 (lv_at hl 4 rfl) ?_
        refine lv_iload hx hb dX5_joinSide_105 (lv_at hl 5 rfl) ?_
        refine mr_callVI (rest := [.ref _, .ref _]) C w h (lw_V q710 q712 qs40 q87 q713) M_endOf_d rfl rfl ⟨Nat.le_of_ble_eq_true rfl, Nat.le_of_ble_eq_true rfl⟩ rfl hl.1 rfl (Nat.le_of_ble_eq_true rfl) ⟨Nat.zero_le _, Nat.zero_le _⟩ dX5_joinSide_107 (fun r1 S1 H locs h w => ?_)
        refine lv_aload_n hx hb dX5_joinSide_110 rfl (lv_at hl 0 rfl) ?_
        refine lv_iload_n hx hb dX5_joinSide_111 rfl (lv_at hl 3 rfl) ?_
        refine lv_aload_n hx hb dX5_joinSide_112 rfl (lv_at hl 0 rfl) ?_
        refine mr_get C w 2 (by decide) q579 rfl rfl dX5_joinSide_113 ?_
        refine lv_iconst (v := 4) hx hb dX5_joinSide_116 (by decide) ?_
        refine lv_iload_n hx hb dX5_joinSide_117 rfl (lv_at hl 1 rfl) ?_
        refine lv_imul hx hb dX5_joinSide_118 ?_
        refine lv_iload hx hb dX5_joinSide_119 (lv_at hl 4 rfl) ?_
        refine lv_iadd hx hb dX5_joinSide_121 ?_
        obtain ⟨hi, h⟩ := h
        refine mr_iald C w 2 1 rfl rfl hi dX5_joinSide_122 ?_
        refine lv_aload_n hx hb dX5_joinSide_123 rfl (lv_at hl 0 rfl) ?_
        refine mr_get C w 2 (by decide) q579 rfl rfl dX5_joinSide_124 ?_
        refine lv_iconst (v := 4) hx hb dX5_joinSide_127 (by decide) ?_
        refine lv_iload_n hx hb dX5_joinSide_128 rfl (lv_at hl 1 rfl) ?_
        refine lv_imul hx hb dX5_joinSide_129 ?_
        refine lv_iload hx hb dX5_joinSide_130 (lv_at hl 5 rfl) ?_
        refine lv_iadd hx hb dX5_joinSide_132 ?_
        obtain ⟨hi, h⟩ := h
        refine mr_iald C w 2 1 rfl rfl hi dX5_joinSide_133 ?_
        refine mr_callVI (rest := [.int _, .ref _, .ref _]) C w h (lw_V q710 q712 qs40 q87 q713) M_endOf_d rfl rfl ⟨Nat.le_of_ble_eq_true rfl, Nat.le_of_ble_eq_true rfl⟩ rfl hl.1 rfl (Nat.le_of_ble_eq_true rfl) ⟨Nat.zero_le _, Nat.zero_le _⟩ dX5_joinSide_134 (fun r2 S2 H locs h w => ?_)
        refine mr_callVV (rest := []) C w h (lw_V q703 q705 qs39 q87 q706) M_join6_d rfl rfl ⟨Nat.le_of_ble_eq_true rfl, Nat.le_of_ble_eq_true rfl⟩ rfl hl.1 rfl (Nat.le_of_ble_eq_true rfl) ⟨Nat.zero_le _, Nat.zero_le _⟩ dX5_joinSide_137 (fun S3 H locs h w => ?_)
        exact M_joinSide_a140 C hT26 hT75 h (lv_sub hl [0, 1, 2, 3, 4, 5] rfl) w
def M_joinSide_w26 (post : MS → Prop) (T26 : Int32 → Int32 → Int32 → Int32 → MS → Prop) (T75 : Int32 → Int32 → Int32 → Int32 → Int32 → MS → Prop) (x1 : Int32) (x2 : Int32) (x3 : Int32) (x4 : Int32) (S : MS) : Prop :=
  (((4 : Int32) ≤ x4 → post S) ∧ (¬ (4 : Int32) ≤ x4 → ((¬ x4 = (x1 - x1 / (4 : Int32) * (4 : Int32)) → (vp_in (((4 : Int32) * x1) + x4) 48 ∧ M_join7 (((4 : Int32) * x2) + x4) (((4 : Int32) * x3) + (gI S 2 ((((4 : Int32) * x1) + x4)).toNatClampNeg)) S (fun (S1 : MS) => T75 x1 x2 x3 x4 (0 : Int32) S1))) ∧ (x4 = (x1 - x1 / (4 : Int32) * (4 : Int32)) → M_joinSide_w146 post T26 T75 x1 x2 x3 x4 S))))
set_option maxHeartbeats 4000000 in
set_option maxRecDepth 100000 in
theorem M_joinSide_a26 {p : Program} {l : Launch} {e : Env} {s : State} {m : MethodId} {args : Array Value} {below : List Frame} {meth : Method} {c : Code} {D : va_G} {dA : Nat → ClassId} {o : Nat → Nat} {A : Nat → Prop} {post : MS → Prop} {T26 : Int32 → Int32 → Int32 → Int32 → MS → Prop} {T75 : Int32 → Int32 → Int32 → Int32 → Int32 → MS → Prop} (C : mC p m c cX5_joinSide 6 s args meth (Option.none : Option Jvm.ClassFile.FieldType) A) (hT26 : ∀ (x1 : Int32) (x2 : Int32) (x3 : Int32) (x4 : Int32) (S : MS), T26 x1 x2 x3 x4 S → ∀ (H : Heap) (locs : List Loc) (ls : Array Slot), lv_has ls 6 [(0, .ref (o 0)), (1, .int x1), (2, .int x2), (3, .int x3), (4, .int x4)] → mw D dA o A s S H locs → W p l e rM_joinSide s m args below meth c H locs 0 0 (mQv below args s D dA o A post) (F0 m 26 ls [])) (hT75 : ∀ (x1 : Int32) (x2 : Int32) (x3 : Int32) (x4 : Int32) (x5 : Int32) (S : MS), T75 x1 x2 x3 x4 x5 S → ∀ (H : Heap) (locs : List Loc) (ls : Array Slot), lv_has ls 6 [(0, .ref (o 0)), (1, .int x1), (2, .int x2), (3, .int x3), (4, .int x4), (5, .int x5)] → mw D dA o A s S H locs → W p l e rM_joinSide s m args below meth c H locs 0 0 (mQv below args s D dA o A post) (F0 m 75 ls [])) {x1 : Int32} {x2 : Int32} {x3 : Int32} {x4 : Int32} {S : MS} (h : M_joinSide_w26 post T26 T75 x1 x2 x3 x4 S) {H : Heap} {locs : List Loc} {ls : Array Slot} (hl : lv_has ls 6 [(0, .ref (o 0)), (1, .int x1), (2, .int x2), (3, .int x3), (4, .int x4)]) (w : mw D dA o A s S H locs) : W p l e rM_joinSide s m args below meth c H locs 0 0 (mQv below args s D dA o A post) (F0 m 26 ls []) := by
  unfold M_joinSide_w26 at h
  obtain ⟨⟨hx, hb, hml, hown, hts⟩, hr, hlk, hA⟩ := id C
  refine lv_iload hx hb dX5_joinSide_26 (lv_at hl 4 rfl) ?_
  refine lv_iconst (v := 4) hx hb dX5_joinSide_28 (by decide) ?_
  obtain ⟨h1, h2⟩ := h
  refine lv_icmp_ge (tgt := 152) hx hb dX5_joinSide_29 (by decide) (fun c1 => ?_) (fun c1 => ?_)
  · have h := h1 c1
    exact mr_vret C w h dX5_joinSide_152
  · have h := h2 c1
    refine lv_iload hx hb dX5_joinSide_32 (lv_at hl 4 rfl) ?_
    refine lv_iload_n hx hb dX5_joinSide_34 rfl (lv_at hl 1 rfl) ?_
    refine lv_iconst (v := 4) hx hb dX5_joinSide_35 (by decide) ?_
    refine lv_irem hx hb dX5_joinSide_36 (by decide) ?_
    obtain ⟨h1, h2⟩ := h
    refine lv_icmp_ne (tgt := 43) hx hb dX5_joinSide_37 (by decide) (fun c1 => ?_) (fun c1 => ?_)
    · have h := h1 c1
      refine lv_aload_n hx hb dX5_joinSide_43 rfl (lv_at hl 0 rfl) ?_
      refine lv_aload_n hx hb dX5_joinSide_44 rfl (lv_at hl 0 rfl) ?_
      refine mr_get C w 7 (by decide) q584 rfl rfl dX5_joinSide_45 ?_
      refine lv_iconst (v := 4) hx hb dX5_joinSide_48 (by decide) ?_
      refine lv_iload_n hx hb dX5_joinSide_49 rfl (lv_at hl 2 rfl) ?_
      refine lv_imul hx hb dX5_joinSide_50 ?_
      refine lv_iload hx hb dX5_joinSide_51 (lv_at hl 4 rfl) ?_
      refine lv_iadd hx hb dX5_joinSide_53 ?_
      refine lv_iconst (v := 4) hx hb dX5_joinSide_54 (by decide) ?_
      refine lv_iload_n hx hb dX5_joinSide_55 rfl (lv_at hl 3 rfl) ?_
      refine lv_imul hx hb dX5_joinSide_56 ?_
      refine lv_aload_n hx hb dX5_joinSide_57 rfl (lv_at hl 0 rfl) ?_
      refine mr_get C w 2 (by decide) q579 rfl rfl dX5_joinSide_58 ?_
      refine lv_iconst (v := 4) hx hb dX5_joinSide_61 (by decide) ?_
      refine lv_iload_n hx hb dX5_joinSide_62 rfl (lv_at hl 1 rfl) ?_
      refine lv_imul hx hb dX5_joinSide_63 ?_
      refine lv_iload hx hb dX5_joinSide_64 (lv_at hl 4 rfl) ?_
      refine lv_iadd hx hb dX5_joinSide_66 ?_
      obtain ⟨hi, h⟩ := h
      refine mr_iald C w 2 1 rfl rfl hi dX5_joinSide_67 ?_
      refine lv_iadd hx hb dX5_joinSide_68 ?_
      refine mr_callVV (rest := []) C w h (lw_V q703 q705 qs39 q87 q706) M_join7_d rfl rfl ⟨Nat.le_of_ble_eq_true rfl, Nat.le_of_ble_eq_true rfl⟩ rfl hl.1 rfl (Nat.le_of_ble_eq_true rfl) ⟨Nat.zero_le _, Nat.zero_le _⟩ dX5_joinSide_69 (fun S1 H locs h w => ?_)
      refine lv_iconst (v := 0) hx hb dX5_joinSide_72 (by decide) ?_
      refine lv_istore (lv' := [(5, .int _), (0, .ref _), (1, .int _), (2, .int _), (3, .int _), (4, .int _)]) hx hb dX5_joinSide_73 hl (by decide) rfl (fun ls hl => ?_)
      exact hT75 _ _ _ _ _ _ h _ _ _ (lv_sub hl [1, 2, 3, 4, 5, 0] rfl) w
    · have h := h2 c1
      refine lv_goto (tgt := 146) hx hb dX5_joinSide_40 (by decide) ?_
      exact M_joinSide_a146 C hT26 hT75 h (lv_sub hl [0, 1, 2, 3, 4] rfl) w
def M_joinSide_w0 (post : MS → Prop) (T26 : Int32 → Int32 → Int32 → Int32 → MS → Prop) (T75 : Int32 → Int32 → Int32 → Int32 → Int32 → MS → Prop) (x1 : Int32) (S : MS) : Prop :=
  (vp_in x1 12 ∧ M_join8 (x1 / (4 : Int32)) ((gI S 1 (x1).toNatClampNeg) / (4 : Int32)) S (fun (S1 : MS) => T26 x1 (x1 / (4 : Int32)) ((gI S 1 (x1).toNatClampNeg) / (4 : Int32)) (0 : Int32) S1))
set_option maxHeartbeats 4000000 in
set_option maxRecDepth 100000 in
theorem M_joinSide_a0 {p : Program} {l : Launch} {e : Env} {s : State} {m : MethodId} {args : Array Value} {below : List Frame} {meth : Method} {c : Code} {D : va_G} {dA : Nat → ClassId} {o : Nat → Nat} {A : Nat → Prop} {post : MS → Prop} {T26 : Int32 → Int32 → Int32 → Int32 → MS → Prop} {T75 : Int32 → Int32 → Int32 → Int32 → Int32 → MS → Prop} (C : mC p m c cX5_joinSide 6 s args meth (Option.none : Option Jvm.ClassFile.FieldType) A) (hT26 : ∀ (x1 : Int32) (x2 : Int32) (x3 : Int32) (x4 : Int32) (S : MS), T26 x1 x2 x3 x4 S → ∀ (H : Heap) (locs : List Loc) (ls : Array Slot), lv_has ls 6 [(0, .ref (o 0)), (1, .int x1), (2, .int x2), (3, .int x3), (4, .int x4)] → mw D dA o A s S H locs → W p l e rM_joinSide s m args below meth c H locs 0 0 (mQv below args s D dA o A post) (F0 m 26 ls [])) (hT75 : ∀ (x1 : Int32) (x2 : Int32) (x3 : Int32) (x4 : Int32) (x5 : Int32) (S : MS), T75 x1 x2 x3 x4 x5 S → ∀ (H : Heap) (locs : List Loc) (ls : Array Slot), lv_has ls 6 [(0, .ref (o 0)), (1, .int x1), (2, .int x2), (3, .int x3), (4, .int x4), (5, .int x5)] → mw D dA o A s S H locs → W p l e rM_joinSide s m args below meth c H locs 0 0 (mQv below args s D dA o A post) (F0 m 75 ls [])) {x1 : Int32} {S : MS} (h : M_joinSide_w0 post T26 T75 x1 S) {H : Heap} {locs : List Loc} {ls : Array Slot} (hl : lv_has ls 6 [(0, .ref (o 0)), (1, .int x1)]) (w : mw D dA o A s S H locs) : W p l e rM_joinSide s m args below meth c H locs 0 0 (mQv below args s D dA o A post) (F0 m 0 ls []) := by
  unfold M_joinSide_w0 at h
  obtain ⟨⟨hx, hb, hml, hown, hts⟩, hr, hlk, hA⟩ := id C
  refine lv_iload_n hx hb dX5_joinSide_0 rfl (lv_at hl 1 rfl) ?_
  refine lv_iconst (v := 4) hx hb dX5_joinSide_1 (by decide) ?_
  refine lv_idiv hx hb dX5_joinSide_2 (by decide) ?_
  refine lv_istore_n (lv' := [(2, .int _), (0, .ref _), (1, .int _)]) hx hb dX5_joinSide_3 rfl hl (by decide) rfl (fun ls hl => ?_)
  refine lv_aload_n hx hb dX5_joinSide_4 rfl (lv_at hl 1 rfl) ?_
  refine mr_get C w 1 (by decide) q578 rfl rfl dX5_joinSide_5 ?_
  refine lv_iload_n hx hb dX5_joinSide_8 rfl (lv_at hl 2 rfl) ?_
  obtain ⟨hi, h⟩ := h
  refine mr_iald C w 1 0 rfl rfl hi dX5_joinSide_9 ?_
  refine lv_iconst (v := 4) hx hb dX5_joinSide_10 (by decide) ?_
  refine lv_idiv hx hb dX5_joinSide_11 (by decide) ?_
  refine lv_istore_n (lv' := [(3, .int _), (2, .int _), (0, .ref _), (1, .int _)]) hx hb dX5_joinSide_12 rfl hl (by decide) rfl (fun ls hl => ?_)
  refine lv_aload_n hx hb dX5_joinSide_13 rfl (lv_at hl 2 rfl) ?_
  refine lv_aload_n hx hb dX5_joinSide_14 rfl (lv_at hl 2 rfl) ?_
  refine mr_get C w 8 (by decide) q585 rfl rfl dX5_joinSide_15 ?_
  refine lv_iload_n hx hb dX5_joinSide_18 rfl (lv_at hl 1 rfl) ?_
  refine lv_iload_n hx hb dX5_joinSide_19 rfl (lv_at hl 0 rfl) ?_
  refine mr_callVV (rest := []) C w h (lw_V q703 q705 qs39 q87 q706) M_join8_d rfl rfl ⟨Nat.le_of_ble_eq_true rfl, Nat.le_of_ble_eq_true rfl⟩ rfl hl.1 rfl (Nat.le_of_ble_eq_true rfl) ⟨Nat.zero_le _, Nat.zero_le _⟩ dX5_joinSide_20 (fun S1 H locs h w => ?_)
  refine lv_iconst (v := 0) hx hb dX5_joinSide_23 (by decide) ?_
  refine lv_istore (lv' := [(4, .int _), (3, .int _), (2, .int _), (0, .ref _), (1, .int _)]) hx hb dX5_joinSide_24 hl (by decide) rfl (fun ls hl => ?_)
  exact hT26 _ _ _ _ _ h _ _ _ (lv_sub hl [3, 4, 2, 1, 0] rfl) w
def M_joinSide_VC (x1 : Int32) (S : MS) (post : MS → Prop) : Prop := ∀ (T26 : Int32 → Int32 → Int32 → Int32 → MS → Prop) (T75 : Int32 → Int32 → Int32 → Int32 → Int32 → MS → Prop), (∀ (x1 : Int32) (x2 : Int32) (x3 : Int32) (x4 : Int32) (S : MS), M_joinSide_w26 post T26 T75 x1 x2 x3 x4 S → T26 x1 x2 x3 x4 S) → (∀ (x1 : Int32) (x2 : Int32) (x3 : Int32) (x4 : Int32) (x5 : Int32) (S : MS), M_joinSide_w75 post T26 T75 x1 x2 x3 x4 x5 S → T75 x1 x2 x3 x4 x5 S) → M_joinSide_w0 post T26 T75 x1 S
theorem M_joinSide_ok {x1 : Int32} {S : MS} {post : MS → Prop} (h : M_joinSide_VC x1 S post) : M_joinSide x1 S post := by
  intro l D dA o sz
  refine mr_start (fun A => va_Qv post (mB D dA o A) A) rfl (Nat.le_of_ble_eq_true rfl) (by decide) ?_
  intro p e s m args below meth c ls A C w hl
  have hl : lv_has ls 6 [(0, .ref (o 0)), (1, .int x1)] := hl
  have h := h (fun (x1 : Int32) (x2 : Int32) (x3 : Int32) (x4 : Int32) S => ∀ (H : Heap) (locs : List Loc) (ls : Array Slot), lv_has ls 6 [(0, .ref (o 0)), (1, .int x1), (2, .int x2), (3, .int x3), (4, .int x4)] → mw D dA o A s S H locs → W p l e rM_joinSide s m args below meth c H locs 0 0 (mQv below args s D dA o A post) (F0 m 26 ls [])) (fun (x1 : Int32) (x2 : Int32) (x3 : Int32) (x4 : Int32) (x5 : Int32) S => ∀ (H : Heap) (locs : List Loc) (ls : Array Slot), lv_has ls 6 [(0, .ref (o 0)), (1, .int x1), (2, .int x2), (3, .int x3), (4, .int x4), (5, .int x5)] → mw D dA o A s S H locs → W p l e rM_joinSide s m args below meth c H locs 0 0 (mQv below args s D dA o A post) (F0 m 75 ls [])) (fun _ _ _ _ S h H locs ls hl w => M_joinSide_a26 C (fun _ _ _ _ _ h => h) (fun _ _ _ _ _ _ h => h) h hl w) (fun _ _ _ _ _ S h H locs ls hl w => M_joinSide_a75 C (fun _ _ _ _ _ h => h) (fun _ _ _ _ _ _ h => h) h hl w)
  exact M_joinSide_a0 C (fun _ _ _ _ _ h => h) (fun _ _ _ _ _ _ h => h) h (lv_sub hl [0, 1] rfl) w
