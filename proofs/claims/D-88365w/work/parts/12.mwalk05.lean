/-! setMany()I -/
def M_setMany_w28 (post : Int32 → MS → Prop) (T4 : Int32 → Int32 → MS → Prop) (v0 : Int32) (v1 : Int32) (x2 : Int32) (S : MS) : Prop :=
  T4 (v1 + v0) (x2 + (1 : Int32)) S
set_option maxHeartbeats 4000000 in
set_option maxRecDepth 100000 in
theorem M_setMany_a28 {p : Program} {l : Launch} {e : Env} {s : State} {m : MethodId} {args : Array Value} {below : List Frame} {meth : Method} {c : Code} {D : va_G} {dA : Nat → ClassId} {o : Nat → Nat} {A : Nat → Prop} {post : Int32 → MS → Prop} {T4 : Int32 → Int32 → MS → Prop} (C : mC p m c cX5_setMany 3 s args meth (Option.some Jvm.ClassFile.FieldType.int) A) (hT4 : ∀ (x1 : Int32) (x2 : Int32) (S : MS), T4 x1 x2 S → ∀ (H : Heap) (locs : List Loc) (ls : Array Slot), lv_has ls 3 [(0, .ref (o 0)), (1, .int x1), (2, .int x2)] → mw D dA o A s S H locs → W p l e rM_setMany s m args below meth c H locs 0 0 (mQi below args s D dA o A post) (F0 m 4 ls [])) {v0 : Int32} {v1 : Int32} {x2 : Int32} {S : MS} (h : M_setMany_w28 post T4 v0 v1 x2 S) {H : Heap} {locs : List Loc} {ls : Array Slot} (hl : lv_has ls 3 [(0, .ref (o 0)), (2, .int x2)]) (w : mw D dA o A s S H locs) : W p l e rM_setMany s m args below meth c H locs 0 0 (mQi below args s D dA o A post) (F0 m 28 ls [.int v0, .int v1]) := by
  unfold M_setMany_w28 at h
  obtain ⟨⟨hx, hb, hml, hown, hts⟩, hr, hlk, hA⟩ := id C
  refine lv_iadd hx hb dX5_setMany_28 ?_
  refine lv_istore_n (lv' := [(1, .int _), (0, .ref _), (2, .int _)]) hx hb dX5_setMany_29 rfl hl (by decide) rfl (fun ls hl => ?_)
  refine lv_iinc (v := _ + (1 : Int32)) (lv' := [(2, .int _), (1, .int _), (0, .ref _)]) hx hb dX5_setMany_30 hl (k := 2) rfl rfl (by decide) rfl (fun ls hl => ?_)
  refine lv_goto (tgt := 4) hx hb dX5_setMany_33 (by decide) ?_
  exact hT4 _ _ _ h _ _ _ (lv_sub hl [2, 1, 0] rfl) w
def M_setMany_w4 (post : Int32 → MS → Prop) (T4 : Int32 → Int32 → MS → Prop) (x1 : Int32) (x2 : Int32) (S : MS) : Prop :=
  (((gF S 0) ≤ x2 → post x1 S) ∧ (¬ (gF S 0) ≤ x2 → (vp_in x2 3 ∧ ((¬ (gI S 8 (x2).toNatClampNeg) = x2 → M_setMany_w28 post T4 (0 : Int32) x1 x2 S) ∧ ((gI S 8 (x2).toNatClampNeg) = x2 → M_setMany_w28 post T4 (1 : Int32) x1 x2 S)))))
set_option maxHeartbeats 4000000 in
set_option maxRecDepth 100000 in
theorem M_setMany_a4 {p : Program} {l : Launch} {e : Env} {s : State} {m : MethodId} {args : Array Value} {below : List Frame} {meth : Method} {c : Code} {D : va_G} {dA : Nat → ClassId} {o : Nat → Nat} {A : Nat → Prop} {post : Int32 → MS → Prop} {T4 : Int32 → Int32 → MS → Prop} (C : mC p m c cX5_setMany 3 s args meth (Option.some Jvm.ClassFile.FieldType.int) A) (hT4 : ∀ (x1 : Int32) (x2 : Int32) (S : MS), T4 x1 x2 S → ∀ (H : Heap) (locs : List Loc) (ls : Array Slot), lv_has ls 3 [(0, .ref (o 0)), (1, .int x1), (2, .int x2)] → mw D dA o A s S H locs → W p l e rM_setMany s m args below meth c H locs 0 0 (mQi below args s D dA o A post) (F0 m 4 ls [])) {x1 : Int32} {x2 : Int32} {S : MS} (h : M_setMany_w4 post T4 x1 x2 S) {H : Heap} {locs : List Loc} {ls : Array Slot} (hl : lv_has ls 3 [(0, .ref (o 0)), (1, .int x1), (2, .int x2)]) (w : mw D dA o A s S H locs) : W p l e rM_setMany s m args below meth c H locs 0 0 (mQi below args s D dA o A post) (F0 m 4 ls []) := by
  unfold M_setMany_w4 at h
  obtain ⟨⟨hx, hb, hml, hown, hts⟩, hr, hlk, hA⟩ := id C
  refine lv_iload_n hx hb dX5_setMany_4 rfl (lv_at hl 2 rfl) ?_
  refine lv_aload_n hx hb dX5_setMany_5 rfl (lv_at hl 0 rfl) ?_
  refine mr_get C w 0 (by decide) q577 rfl rfl dX5_setMany_6 ?_
  obtain ⟨h1, h2⟩ := h
  refine lv_icmp_ge (tgt := 36) hx hb dX5_setMany_9 (by decide) (fun c1 => ?_) (fun c1 => ?_)
  · have h := h1 c1
    refine lv_iload_n hx hb dX5_setMany_36 rfl (lv_at hl 1 rfl) ?_
    exact mr_iret C w h dX5_setMany_37
  · have h := h2 c1
    refine lv_iload_n hx hb dX5_setMany_12 rfl (lv_at hl 1 rfl) ?_
    refine lv_aload_n hx hb dX5_setMany_13 rfl (lv_at hl 0 rfl) ?_
    refine mr_get C w 8 (by decide) q585 rfl rfl dX5_setMany_14 ?_
    refine lv_iload_n hx hb dX5_setMany_17 rfl (lv_at hl 2 rfl) ?_
    obtain ⟨hi, h⟩ := h
    refine mr_iald C w 8 7 rfl rfl hi dX5_setMany_18 ?_
    refine lv_iload_n hx hb dX5_setMany_19 rfl (lv_at hl 2 rfl) ?_
    obtain ⟨h1, h2⟩ := h
    refine lv_icmp_ne (tgt := 27) hx hb dX5_setMany_20 (by decide) (fun c1 => ?_) (fun c1 => ?_)
    · have h := h1 c1
      refine lv_iconst (v := 0) hx hb dX5_setMany_27 (by decide) ?_
      exact M_setMany_a28 C hT4 h (lv_sub hl [0, 2] rfl) w
    · have h := h2 c1
      refine lv_iconst (v := 1) hx hb dX5_setMany_23 (by decide) ?_
      refine lv_goto (tgt := 28) hx hb dX5_setMany_24 (by decide) ?_
      exact M_setMany_a28 C hT4 h (lv_sub hl [0, 2] rfl) w
def M_setMany_w0 (post : Int32 → MS → Prop) (T4 : Int32 → Int32 → MS → Prop) (S : MS) : Prop :=
  T4 (0 : Int32) (0 : Int32) S
set_option maxHeartbeats 4000000 in
set_option maxRecDepth 100000 in
theorem M_setMany_a0 {p : Program} {l : Launch} {e : Env} {s : State} {m : MethodId} {args : Array Value} {below : List Frame} {meth : Method} {c : Code} {D : va_G} {dA : Nat → ClassId} {o : Nat → Nat} {A : Nat → Prop} {post : Int32 → MS → Prop} {T4 : Int32 → Int32 → MS → Prop} (C : mC p m c cX5_setMany 3 s args meth (Option.some Jvm.ClassFile.FieldType.int) A) (hT4 : ∀ (x1 : Int32) (x2 : Int32) (S : MS), T4 x1 x2 S → ∀ (H : Heap) (locs : List Loc) (ls : Array Slot), lv_has ls 3 [(0, .ref (o 0)), (1, .int x1), (2, .int x2)] → mw D dA o A s S H locs → W p l e rM_setMany s m args below meth c H locs 0 0 (mQi below args s D dA o A post) (F0 m 4 ls [])) {S : MS} (h : M_setMany_w0 post T4 S) {H : Heap} {locs : List Loc} {ls : Array Slot} (hl : lv_has ls 3 [(0, .ref (o 0))]) (w : mw D dA o A s S H locs) : W p l e rM_setMany s m args below meth c H locs 0 0 (mQi below args s D dA o A post) (F0 m 0 ls []) := by
  unfold M_setMany_w0 at h
  obtain ⟨⟨hx, hb, hml, hown, hts⟩, hr, hlk, hA⟩ := id C
  refine lv_iconst (v := 0) hx hb dX5_setMany_0 (by decide) ?_
  refine lv_istore_n (lv' := [(1, .int _), (0, .ref _)]) hx hb dX5_setMany_1 rfl hl (by decide) rfl (fun ls hl => ?_)
  refine lv_iconst (v := 0) hx hb dX5_setMany_2 (by decide) ?_
  refine lv_istore_n (lv' := [(2, .int _), (1, .int _), (0, .ref _)]) hx hb dX5_setMany_3 rfl hl (by decide) rfl (fun ls hl => ?_)
  exact hT4 _ _ _ h _ _ _ (lv_sub hl [2, 1, 0] rfl) w
def M_setMany_VC (S : MS) (post : Int32 → MS → Prop) : Prop := ∀ (T4 : Int32 → Int32 → MS → Prop), (∀ (x1 : Int32) (x2 : Int32) (S : MS), M_setMany_w4 post T4 x1 x2 S → T4 x1 x2 S) → M_setMany_w0 post T4 S
theorem M_setMany_ok {S : MS} {post : Int32 → MS → Prop} (h : M_setMany_VC S post) : M_setMany S post := by
  intro l D dA o sz
  refine mr_start (fun A => va_Qi post (mB D dA o A) A) rfl (Nat.le_of_ble_eq_true rfl) (by decide) ?_
  intro p e s m args below meth c ls A C w hl
  have hl : lv_has ls 3 [(0, .ref (o 0))] := hl
  have h := h (fun (x1 : Int32) (x2 : Int32) S => ∀ (H : Heap) (locs : List Loc) (ls : Array Slot), lv_has ls 3 [(0, .ref (o 0)), (1, .int x1), (2, .int x2)] → mw D dA o A s S H locs → W p l e rM_setMany s m args below meth c H locs 0 0 (mQi below args s D dA o A post) (F0 m 4 ls [])) (fun _ _ S h H locs ls hl w => M_setMany_a4 C (fun _ _ _ h => h) h hl w)
  exact M_setMany_a0 C (fun _ _ _ h => h) h (lv_sub hl [0] rfl) w

/-! count(I)I -/
def M_count_w129 (post : Int32 → MS → Prop) (v0 : Int32) (S : MS) : Prop :=
  post v0 S
set_option maxHeartbeats 4000000 in
set_option maxRecDepth 100000 in
theorem M_count_a129 {p : Program} {l : Launch} {e : Env} {s : State} {m : MethodId} {args : Array Value} {below : List Frame} {meth : Method} {c : Code} {D : va_G} {dA : Nat → ClassId} {o : Nat → Nat} {A : Nat → Prop} {post : Int32 → MS → Prop} (C : mC p m c cX5_count 2 s args meth (Option.some Jvm.ClassFile.FieldType.int) A) {v0 : Int32} {S : MS} (h : M_count_w129 post v0 S) {H : Heap} {locs : List Loc} {ls : Array Slot} (hl : lv_has ls 2 [(0, .ref (o 0))]) (w : mw D dA o A s S H locs) : W p l e rM_count s m args below meth c H locs 0 0 (mQi below args s D dA o A post) (F0 m 129 ls [.int v0]) := by
  unfold M_count_w129 at h
  obtain ⟨⟨hx, hb, hml, hown, hts⟩, hr, hlk, hA⟩ := id C
  exact mr_iret C w h dX5_count_129
def M_count_w116 (post : Int32 → MS → Prop) (v0 : Int32) (S : MS) : Prop :=
  post v0 S
set_option maxHeartbeats 4000000 in
set_option maxRecDepth 100000 in
theorem M_count_a116 {p : Program} {l : Launch} {e : Env} {s : State} {m : MethodId} {args : Array Value} {below : List Frame} {meth : Method} {c : Code} {D : va_G} {dA : Nat → ClassId} {o : Nat → Nat} {A : Nat → Prop} {post : Int32 → MS → Prop} (C : mC p m c cX5_count 2 s args meth (Option.some Jvm.ClassFile.FieldType.int) A) {v0 : Int32} {S : MS} (h : M_count_w116 post v0 S) {H : Heap} {locs : List Loc} {ls : Array Slot} (hl : lv_has ls 2 [(0, .ref (o 0))]) (w : mw D dA o A s S H locs) : W p l e rM_count s m args below meth c H locs 0 0 (mQi below args s D dA o A post) (F0 m 116 ls [.int v0]) := by
  unfold M_count_w116 at h
  obtain ⟨⟨hx, hb, hml, hown, hts⟩, hr, hlk, hA⟩ := id C
  exact mr_iret C w h dX5_count_116
def M_count_w0 (post : Int32 → MS → Prop) (x1 : Int32) (S : MS) : Prop :=
  M_label S (fun (S1 : MS) => ((x1 = (0 : Int32) → post (gF S1 0) S1) ∧ (x1 = (1 : Int32) → M_cornerClasses S1 (fun (r2 : Int32) (S2 : MS) => post r2 S2)) ∧ (x1 = (2 : Int32) → M_edgeClasses S1 (fun (r3 : Int32) (S3 : MS) => post r3 S3)) ∧ (x1 = (3 : Int32) → M_sides (0 : Int32) S1 (fun (r4 : Int32) (S4 : MS) => post r4 S4)) ∧ (x1 = (4 : Int32) → M_sides (1 : Int32) S1 (fun (r5 : Int32) (S5 : MS) => post r5 S5)) ∧ (x1 = (5 : Int32) → M_cornerClasses S1 (fun (r6 : Int32) (S6 : MS) => M_edgeClasses S6 (fun (r7 : Int32) (S7 : MS) => M_sides (0 : Int32) S7 (fun (r8 : Int32) (S8 : MS) => post (((r6 - r7) + r8) - (gF S8 0)) S8)))) ∧ (x1 = (6 : Int32) → M_isWhole S1 (fun (r9 : Int32) (S9 : MS) => ((r9 = 0 → M_count_w116 post (0 : Int32) S9) ∧ (¬ r9 = 0 → M_count_w116 post (1 : Int32) S9)))) ∧ (x1 = (7 : Int32) → M_isEven S1 (fun (r10 : Int32) (S10 : MS) => ((r10 = 0 → M_count_w129 post (0 : Int32) S10) ∧ (¬ r10 = 0 → M_count_w129 post (1 : Int32) S10)))) ∧ (x1 = (8 : Int32) → M_setMany S1 (fun (r11 : Int32) (S11 : MS) => post r11 S11)) ∧ (¬ x1 = (0 : Int32) → ¬ x1 = (1 : Int32) → ¬ x1 = (2 : Int32) → ¬ x1 = (3 : Int32) → ¬ x1 = (4 : Int32) → ¬ x1 = (5 : Int32) → ¬ x1 = (6 : Int32) → ¬ x1 = (7 : Int32) → ¬ x1 = (8 : Int32) → post (-2147483648 : Int32) S1)))
set_option maxHeartbeats 4000000 in
set_option maxRecDepth 100000 in
theorem M_count_a0 {p : Program} {l : Launch} {e : Env} {s : State} {m : MethodId} {args : Array Value} {below : List Frame} {meth : Method} {c : Code} {D : va_G} {dA : Nat → ClassId} {o : Nat → Nat} {A : Nat → Prop} {post : Int32 → MS → Prop} (C : mC p m c cX5_count 2 s args meth (Option.some Jvm.ClassFile.FieldType.int) A) {x1 : Int32} {S : MS} (h : M_count_w0 post x1 S) {H : Heap} {locs : List Loc} {ls : Array Slot} (hl : lv_has ls 2 [(0, .ref (o 0)), (1, .int x1)]) (w : mw D dA o A s S H locs) : W p l e rM_count s m args below meth c H locs 0 0 (mQi below args s D dA o A post) (F0 m 0 ls []) := by
  unfold M_count_w0 at h
  obtain ⟨⟨hx, hb, hml, hown, hts⟩, hr, hlk, hA⟩ := id C
  refine lv_aload_n hx hb dX5_count_0 rfl (lv_at hl 0 rfl) ?_
  refine mr_callVV (rest := []) C w h (lw_V q695 q697 qs37 q87 q698) M_label_d rfl rfl ⟨Nat.le_of_ble_eq_true rfl, Nat.le_of_ble_eq_true rfl⟩ rfl hl.1 rfl (Nat.le_of_ble_eq_true rfl) ⟨Nat.zero_le _, Nat.zero_le _⟩ dX5_count_1 (fun S1 H locs h w => ?_)
  refine lv_iload_n hx hb dX5_count_4 rfl (lv_at hl 1 rfl) ?_
  obtain ⟨g0, g1, g2, g3, g4, g5, g6, g7, g8, gd⟩ := h
  by_cases e0 : x1 = (0 : Int32)
  · have h := g0 e0
    have hi : (x1).toInt = 0 := by rw [e0]; rfl
    refine lv_tableIn (tgt := 56) hx hb dX5_count_5 (by rw [hi]; decide) (by rw [hi]; decide) (by rw [hi]; rfl) (by decide) ?_
    refine lv_aload_n hx hb dX5_count_56 rfl (lv_at hl 0 rfl) ?_
    refine mr_get C w 0 (by decide) q577 rfl rfl dX5_count_57 ?_
    exact mr_iret C w h dX5_count_60
  by_cases e1 : x1 = (1 : Int32)
  · have h := g1 e1
    have hi : (x1).toInt = 1 := by rw [e1]; rfl
    refine lv_tableIn (tgt := 61) hx hb dX5_count_5 (by rw [hi]; decide) (by rw [hi]; decide) (by rw [hi]; rfl) (by decide) ?_
    refine lv_aload_n hx hb dX5_count_61 rfl (lv_at hl 0 rfl) ?_
    refine mr_callVI (rest := []) C w h (lw_V q755 q757 qs48 q87 q758) M_cornerClasses_d rfl rfl ⟨Nat.le_of_ble_eq_true rfl, Nat.le_of_ble_eq_true rfl⟩ rfl hl.1 rfl (Nat.le_of_ble_eq_true rfl) ⟨Nat.zero_le _, Nat.zero_le _⟩ dX5_count_62 (fun r2 S2 H locs h w => ?_)
    exact mr_iret C w h dX5_count_65
  by_cases e2 : x1 = (2 : Int32)
  · have h := g2 e2
    have hi : (x1).toInt = 2 := by rw [e2]; rfl
    refine lv_tableIn (tgt := 66) hx hb dX5_count_5 (by rw [hi]; decide) (by rw [hi]; decide) (by rw [hi]; rfl) (by decide) ?_
    refine lv_aload_n hx hb dX5_count_66 rfl (lv_at hl 0 rfl) ?_
    refine mr_callVI (rest := []) C w h (lw_V q759 q761 qs49 q87 q762) M_edgeClasses_d rfl rfl ⟨Nat.le_of_ble_eq_true rfl, Nat.le_of_ble_eq_true rfl⟩ rfl hl.1 rfl (Nat.le_of_ble_eq_true rfl) ⟨Nat.zero_le _, Nat.zero_le _⟩ dX5_count_67 (fun r3 S3 H locs h w => ?_)
    exact mr_iret C w h dX5_count_70
  by_cases e3 : x1 = (3 : Int32)
  · have h := g3 e3
    have hi : (x1).toInt = 3 := by rw [e3]; rfl
    refine lv_tableIn (tgt := 71) hx hb dX5_count_5 (by rw [hi]; decide) (by rw [hi]; decide) (by rw [hi]; rfl) (by decide) ?_
    refine lv_aload_n hx hb dX5_count_71 rfl (lv_at hl 0 rfl) ?_
    refine lv_iconst (v := 0) hx hb dX5_count_72 (by decide) ?_
    refine mr_callVI (rest := []) C w h (lw_V q763 q765 qs50 q87 q766) M_sides_d rfl rfl ⟨Nat.le_of_ble_eq_true rfl, Nat.le_of_ble_eq_true rfl⟩ rfl hl.1 rfl (Nat.le_of_ble_eq_true rfl) ⟨Nat.zero_le _, Nat.zero_le _⟩ dX5_count_73 (fun r4 S4 H locs h w => ?_)
    exact mr_iret C w h dX5_count_76
  by_cases e4 : x1 = (4 : Int32)
  · have h := g4 e4
    have hi : (x1).toInt = 4 := by rw [e4]; rfl
    refine lv_tableIn (tgt := 77) hx hb dX5_count_5 (by rw [hi]; decide) (by rw [hi]; decide) (by rw [hi]; rfl) (by decide) ?_
    refine lv_aload_n hx hb dX5_count_77 rfl (lv_at hl 0 rfl) ?_
    refine lv_iconst (v := 1) hx hb dX5_count_78 (by decide) ?_
    refine mr_callVI (rest := []) C w h (lw_V q763 q765 qs50 q87 q766) M_sides_d rfl rfl ⟨Nat.le_of_ble_eq_true rfl, Nat.le_of_ble_eq_true rfl⟩ rfl hl.1 rfl (Nat.le_of_ble_eq_true rfl) ⟨Nat.zero_le _, Nat.zero_le _⟩ dX5_count_79 (fun r5 S5 H locs h w => ?_)
    exact mr_iret C w h dX5_count_82
  by_cases e5 : x1 = (5 : Int32)
  · have h := g5 e5
    have hi : (x1).toInt = 5 := by rw [e5]; rfl
    refine lv_tableIn (tgt := 83) hx hb dX5_count_5 (by rw [hi]; decide) (by rw [hi]; decide) (by rw [hi]; rfl) (by decide) ?_
    refine lv_aload_n hx hb dX5_count_83 rfl (lv_at hl 0 rfl) ?_
    refine mr_callVI (rest := []) C w h (lw_V q755 q757 qs48 q87 q758) M_cornerClasses_d rfl rfl ⟨Nat.le_of_ble_eq_true rfl, Nat.le_of_ble_eq_true rfl⟩ rfl hl.1 rfl (Nat.le_of_ble_eq_true rfl) ⟨Nat.zero_le _, Nat.zero_le _⟩ dX5_count_84 (fun r6 S6 H locs h w => ?_)
    refine lv_aload_n hx hb dX5_count_87 rfl (lv_at hl 0 rfl) ?_
    refine mr_callVI (rest := [.int _]) C w h (lw_V q759 q761 qs49 q87 q762) M_edgeClasses_d rfl rfl ⟨Nat.le_of_ble_eq_true rfl, Nat.le_of_ble_eq_true rfl⟩ rfl hl.1 rfl (Nat.le_of_ble_eq_true rfl) ⟨Nat.zero_le _, Nat.zero_le _⟩ dX5_count_88 (fun r7 S7 H locs h w => ?_)
    refine lv_isub hx hb dX5_count_91 ?_
    refine lv_aload_n hx hb dX5_count_92 rfl (lv_at hl 0 rfl) ?_
    refine lv_iconst (v := 0) hx hb dX5_count_93 (by decide) ?_
    refine mr_callVI (rest := [.int _]) C w h (lw_V q763 q765 qs50 q87 q766) M_sides_d rfl rfl ⟨Nat.le_of_ble_eq_true rfl, Nat.le_of_ble_eq_true rfl⟩ rfl hl.1 rfl (Nat.le_of_ble_eq_true rfl) ⟨Nat.zero_le _, Nat.zero_le _⟩ dX5_count_94 (fun r8 S8 H locs h w => ?_)
    refine lv_iadd hx hb dX5_count_97 ?_
    refine lv_aload_n hx hb dX5_count_98 rfl (lv_at hl 0 rfl) ?_
    refine mr_get C w 0 (by decide) q577 rfl rfl dX5_count_99 ?_
    refine lv_isub hx hb dX5_count_102 ?_
    exact mr_iret C w h dX5_count_103
  by_cases e6 : x1 = (6 : Int32)
  · have h := g6 e6
    have hi : (x1).toInt = 6 := by rw [e6]; rfl
    refine lv_tableIn (tgt := 104) hx hb dX5_count_5 (by rw [hi]; decide) (by rw [hi]; decide) (by rw [hi]; rfl) (by decide) ?_
    refine lv_aload_n hx hb dX5_count_104 rfl (lv_at hl 0 rfl) ?_
    refine mr_callVI (rest := []) C w h (lw_V q767 q769 qs51 q87 q770) M_isWhole_d rfl rfl ⟨Nat.le_of_ble_eq_true rfl, Nat.le_of_ble_eq_true rfl⟩ rfl hl.1 rfl (Nat.le_of_ble_eq_true rfl) ⟨Nat.zero_le _, Nat.zero_le _⟩ dX5_count_105 (fun r9 S9 H locs h w => ?_)
    obtain ⟨h1, h2⟩ := h
    refine lv_if_eq (tgt := 115) hx hb dX5_count_108 (by decide) (fun c1 => ?_) (fun c1 => ?_)
    · have h := h1 c1
      refine lv_iconst (v := 0) hx hb dX5_count_115 (by decide) ?_
      exact M_count_a116 C h (lv_sub hl [0] rfl) w
    · have h := h2 c1
      refine lv_iconst (v := 1) hx hb dX5_count_111 (by decide) ?_
      refine lv_goto (tgt := 116) hx hb dX5_count_112 (by decide) ?_
      exact M_count_a116 C h (lv_sub hl [0] rfl) w
  by_cases e7 : x1 = (7 : Int32)
  · have h := g7 e7
    have hi : (x1).toInt = 7 := by rw [e7]; rfl
    refine lv_tableIn (tgt := 117) hx hb dX5_count_5 (by rw [hi]; decide) (by rw [hi]; decide) (by rw [hi]; rfl) (by decide) ?_
    refine lv_aload_n hx hb dX5_count_117 rfl (lv_at hl 0 rfl) ?_
    refine mr_callVI (rest := []) C w h (lw_V q775 q777 qs53 q87 q778) M_isEven_d rfl rfl ⟨Nat.le_of_ble_eq_true rfl, Nat.le_of_ble_eq_true rfl⟩ rfl hl.1 rfl (Nat.le_of_ble_eq_true rfl) ⟨Nat.zero_le _, Nat.zero_le _⟩ dX5_count_118 (fun r10 S10 H locs h w => ?_)
    obtain ⟨h1, h2⟩ := h
    refine lv_if_eq (tgt := 128) hx hb dX5_count_121 (by decide) (fun c1 => ?_) (fun c1 => ?_)
    · have h := h1 c1
      refine lv_iconst (v := 0) hx hb dX5_count_128 (by decide) ?_
      exact M_count_a129 C h (lv_sub hl [0] rfl) w
    · have h := h2 c1
      refine lv_iconst (v := 1) hx hb dX5_count_124 (by decide) ?_
      refine lv_goto (tgt := 129) hx hb dX5_count_125 (by decide) ?_
      exact M_count_a129 C h (lv_sub hl [0] rfl) w
  by_cases e8 : x1 = (8 : Int32)
  · have h := g8 e8
    have hi : (x1).toInt = 8 := by rw [e8]; rfl
    refine lv_tableIn (tgt := 130) hx hb dX5_count_5 (by rw [hi]; decide) (by rw [hi]; decide) (by rw [hi]; rfl) (by decide) ?_
    refine lv_aload_n hx hb dX5_count_130 rfl (lv_at hl 0 rfl) ?_
    refine mr_callVI (rest := []) C w h (lw_V q783 q785 qs55 q87 q786) M_setMany_d rfl rfl ⟨Nat.le_of_ble_eq_true rfl, Nat.le_of_ble_eq_true rfl⟩ rfl hl.1 rfl (Nat.le_of_ble_eq_true rfl) ⟨Nat.zero_le _, Nat.zero_le _⟩ dX5_count_131 (fun r11 S11 H locs h w => ?_)
    exact mr_iret C w h dX5_count_134
  have h := gd e0 e1 e2 e3 e4 e5 e6 e7 e8
  have n0 : ¬ (x1).toInt = 0 := lv_neT e0 rfl
  have n1 : ¬ (x1).toInt = 1 := lv_neT e1 rfl
  have n2 : ¬ (x1).toInt = 2 := lv_neT e2 rfl
  have n3 : ¬ (x1).toInt = 3 := lv_neT e3 rfl
  have n4 : ¬ (x1).toInt = 4 := lv_neT e4 rfl
  have n5 : ¬ (x1).toInt = 5 := lv_neT e5 rfl
  have n6 : ¬ (x1).toInt = 6 := lv_neT e6 rfl
  have n7 : ¬ (x1).toInt = 7 := lv_neT e7 rfl
  have n8 : ¬ (x1).toInt = 8 := lv_neT e8 rfl
  refine lv_tableOut (tgt := 135) hx hb dX5_count_5 (by omega) (by decide) ?_
  refine lv_ldc hx hb hown (hts _ q746) dX5_count_135 ?_
  exact mr_iret C w h dX5_count_137
def M_count_VC (x1 : Int32) (S : MS) (post : Int32 → MS → Prop) : Prop := M_count_w0 post x1 S
theorem M_count_ok {x1 : Int32} {S : MS} {post : Int32 → MS → Prop} (h : M_count_VC x1 S post) : M_count x1 S post := by
  intro l D dA o sz
  refine mr_start (fun A => va_Qi post (mB D dA o A) A) rfl (Nat.le_of_ble_eq_true rfl) (by decide) ?_
  intro p e s m args below meth c ls A C w hl
  have hl : lv_has ls 2 [(0, .ref (o 0)), (1, .int x1)] := hl
  exact M_count_a0 C h (lv_sub hl [0, 1] rfl) w

/-! findPairs()V -/
def M_findPairs_w72 (post : MS → Prop) (T7 : Int32 → MS → Prop) (x1 : Int32) (S : MS) : Prop :=
  T7 (x1 + (1 : Int32)) S
set_option maxHeartbeats 4000000 in
set_option maxRecDepth 100000 in
theorem M_findPairs_a72 {p : Program} {l : Launch} {e : Env} {s : State} {m : MethodId} {args : Array Value} {below : List Frame} {meth : Method} {c : Code} {D : va_G} {dA : Nat → ClassId} {o : Nat → Nat} {A : Nat → Prop} {post : MS → Prop} {T7 : Int32 → MS → Prop} (C : mC p m c cX5_findPairs 2 s args meth (Option.none : Option Jvm.ClassFile.FieldType) A) (hT7 : ∀ (x1 : Int32) (S : MS), T7 x1 S → ∀ (H : Heap) (locs : List Loc) (ls : Array Slot), lv_has ls 2 [(0, .ref (o 0)), (1, .int x1)] → mw D dA o A s S H locs → W p l e rM_findPairs s m args below meth c H locs 0 0 (mQv below args s D dA o A post) (F0 m 7 ls [])) {x1 : Int32} {S : MS} (h : M_findPairs_w72 post T7 x1 S) {H : Heap} {locs : List Loc} {ls : Array Slot} (hl : lv_has ls 2 [(0, .ref (o 0)), (1, .int x1)]) (w : mw D dA o A s S H locs) : W p l e rM_findPairs s m args below meth c H locs 0 0 (mQv below args s D dA o A post) (F0 m 72 ls []) := by
  unfold M_findPairs_w72 at h
  obtain ⟨⟨hx, hb, hml, hown, hts⟩, hr, hlk, hA⟩ := id C
  refine lv_iinc (v := _ + (1 : Int32)) (lv' := [(1, .int _), (0, .ref _)]) hx hb dX5_findPairs_72 hl (k := 1) rfl rfl (by decide) rfl (fun ls hl => ?_)
  refine lv_goto (tgt := 7) hx hb dX5_findPairs_75 (by decide) ?_
  exact hT7 _ _ h _ _ _ (lv_sub hl [1, 0] rfl) w
def M_findPairs_w7 (post : MS → Prop) (T7 : Int32 → MS → Prop) (x1 : Int32) (S : MS) : Prop :=
  ((((4 : Int32) * (gF S 0)) ≤ x1 → post S) ∧ (¬ ((4 : Int32) * (gF S 0)) ≤ x1 → (vp_in x1 12 ∧ (((gI S 1 (x1).toNatClampNeg) = (-1 : Int32) → M_findPairs_w72 post T7 x1 S) ∧ (¬ (gI S 1 (x1).toNatClampNeg) = (-1 : Int32) → (vp_in x1 12 ∧ (((gI S 1 (x1).toNatClampNeg) ≤ x1 → M_findPairs_w72 post T7 x1 S) ∧ (¬ (gI S 1 (x1).toNatClampNeg) ≤ x1 → (vp_in x1 12 ∧ (fun (S1 : MS) => (vp_in x1 12 ∧ (vp_in (gI S1 1 (x1).toNatClampNeg) 12 ∧ (fun (S2 : MS) => (fun (S3 : MS) => M_findPairs_w72 post T7 x1 S3) (sF S2 12 ((gF S2 12) + (1 : Int32)))) (sI S1 13 ((gI S1 1 (x1).toNatClampNeg)).toNatClampNeg (gF S1 12))))) (sI S 13 (x1).toNatClampNeg (gF S 12)))))))))))
set_option maxHeartbeats 4000000 in
set_option maxRecDepth 100000 in
theorem M_findPairs_a7 {p : Program} {l : Launch} {e : Env} {s : State} {m : MethodId} {args : Array Value} {below : List Frame} {meth : Method} {c : Code} {D : va_G} {dA : Nat → ClassId} {o : Nat → Nat} {A : Nat → Prop} {post : MS → Prop} {T7 : Int32 → MS → Prop} (C : mC p m c cX5_findPairs 2 s args meth (Option.none : Option Jvm.ClassFile.FieldType) A) (hT7 : ∀ (x1 : Int32) (S : MS), T7 x1 S → ∀ (H : Heap) (locs : List Loc) (ls : Array Slot), lv_has ls 2 [(0, .ref (o 0)), (1, .int x1)] → mw D dA o A s S H locs → W p l e rM_findPairs s m args below meth c H locs 0 0 (mQv below args s D dA o A post) (F0 m 7 ls [])) {x1 : Int32} {S : MS} (h : M_findPairs_w7 post T7 x1 S) {H : Heap} {locs : List Loc} {ls : Array Slot} (hl : lv_has ls 2 [(0, .ref (o 0)), (1, .int x1)]) (w : mw D dA o A s S H locs) : W p l e rM_findPairs s m args below meth c H locs 0 0 (mQv below args s D dA o A post) (F0 m 7 ls []) := by
  unfold M_findPairs_w7 at h
  obtain ⟨⟨hx, hb, hml, hown, hts⟩, hr, hlk, hA⟩ := id C
  refine lv_iload_n hx hb dX5_findPairs_7 rfl (lv_at hl 1 rfl) ?_
  refine lv_iconst (v := 4) hx hb dX5_findPairs_8 (by decide) ?_
  refine lv_aload_n hx hb dX5_findPairs_9 rfl (lv_at hl 0 rfl) ?_
  refine mr_get C w 0 (by decide) q577 rfl rfl dX5_findPairs_10 ?_
  refine lv_imul hx hb dX5_findPairs_13 ?_
  obtain ⟨h1, h2⟩ := h
  refine lv_icmp_ge (tgt := 78) hx hb dX5_findPairs_14 (by decide) (fun c1 => ?_) (fun c1 => ?_)
  · have h := h1 c1
    exact mr_vret C w h dX5_findPairs_78
  · have h := h2 c1
    refine lv_aload_n hx hb dX5_findPairs_17 rfl (lv_at hl 0 rfl) ?_
    refine mr_get C w 1 (by decide) q578 rfl rfl dX5_findPairs_18 ?_
    refine lv_iload_n hx hb dX5_findPairs_21 rfl (lv_at hl 1 rfl) ?_
    obtain ⟨hi, h⟩ := h
    refine mr_iald C w 1 0 rfl rfl hi dX5_findPairs_22 ?_
    refine lv_iconst (v := -1) hx hb dX5_findPairs_23 (by decide) ?_
    obtain ⟨h1, h2⟩ := h
    refine lv_icmp_eq (tgt := 72) hx hb dX5_findPairs_24 (by decide) (fun c1 => ?_) (fun c1 => ?_)
    · have h := h1 c1
      exact M_findPairs_a72 C hT7 h (lv_sub hl [0, 1] rfl) w
    · have h := h2 c1
      refine lv_iload_n hx hb dX5_findPairs_27 rfl (lv_at hl 1 rfl) ?_
      refine lv_aload_n hx hb dX5_findPairs_28 rfl (lv_at hl 0 rfl) ?_
      refine mr_get C w 1 (by decide) q578 rfl rfl dX5_findPairs_29 ?_
      refine lv_iload_n hx hb dX5_findPairs_32 rfl (lv_at hl 1 rfl) ?_
      obtain ⟨hi, h⟩ := h
      refine mr_iald C w 1 0 rfl rfl hi dX5_findPairs_33 ?_
      obtain ⟨h1, h2⟩ := h
      refine lv_icmp_ge (tgt := 72) hx hb dX5_findPairs_34 (by decide) (fun c1 => ?_) (fun c1 => ?_)
      · have h := h1 c1
        exact M_findPairs_a72 C hT7 h (lv_sub hl [0, 1] rfl) w
      · have h := h2 c1
        refine lv_aload_n hx hb dX5_findPairs_37 rfl (lv_at hl 0 rfl) ?_
        refine mr_get C w 13 (by decide) q590 rfl rfl dX5_findPairs_38 ?_
        refine lv_iload_n hx hb dX5_findPairs_41 rfl (lv_at hl 1 rfl) ?_
        refine lv_aload_n hx hb dX5_findPairs_42 rfl (lv_at hl 0 rfl) ?_
        refine mr_get C w 12 (by decide) q589 rfl rfl dX5_findPairs_43 ?_
        obtain ⟨hi, h⟩ := h
        refine mr_iast C w 10 9 rfl rfl hi MWs_13 dX5_findPairs_46 (fun H locs w => ?_)
        refine lv_aload_n hx hb dX5_findPairs_47 rfl (lv_at hl 0 rfl) ?_
        refine mr_get C w 13 (by decide) q590 rfl rfl dX5_findPairs_48 ?_
        refine lv_aload_n hx hb dX5_findPairs_51 rfl (lv_at hl 0 rfl) ?_
        refine mr_get C w 1 (by decide) q578 rfl rfl dX5_findPairs_52 ?_
        refine lv_iload_n hx hb dX5_findPairs_55 rfl (lv_at hl 1 rfl) ?_
        obtain ⟨hi, h⟩ := h
        refine mr_iald C w 1 0 rfl rfl hi dX5_findPairs_56 ?_
        refine lv_aload_n hx hb dX5_findPairs_57 rfl (lv_at hl 0 rfl) ?_
        refine mr_get C w 12 (by decide) q589 rfl rfl dX5_findPairs_58 ?_
        obtain ⟨hi, h⟩ := h
        refine mr_iast C w 10 9 rfl rfl hi MWs_13 dX5_findPairs_61 (fun H locs w => ?_)
        refine lv_aload_n hx hb dX5_findPairs_62 rfl (lv_at hl 0 rfl) ?_
        refine lv_dup hx hb dX5_findPairs_63 rfl ?_
        refine mr_get C w 12 (by decide) q589 rfl rfl dX5_findPairs_64 ?_
        refine lv_iconst (v := 1) hx hb dX5_findPairs_67 (by decide) ?_
        refine lv_iadd hx hb dX5_findPairs_68 ?_
        refine mr_put (ty := .int) C w 12 (by decide) q589 rfl rfl (by decide +kernel) rfl rfl MWf_12 dX5_findPairs_69 (fun H locs w => ?_)
        exact M_findPairs_a72 C hT7 h (lv_sub hl [0, 1] rfl) w
def M_findPairs_w0 (post : MS → Prop) (T7 : Int32 → MS → Prop) (S : MS) : Prop :=
  (fun (S1 : MS) => T7 (0 : Int32) S1) (sF S 12 (0 : Int32))
set_option maxHeartbeats 4000000 in
set_option maxRecDepth 100000 in
theorem M_findPairs_a0 {p : Program} {l : Launch} {e : Env} {s : State} {m : MethodId} {args : Array Value} {below : List Frame} {meth : Method} {c : Code} {D : va_G} {dA : Nat → ClassId} {o : Nat → Nat} {A : Nat → Prop} {post : MS → Prop} {T7 : Int32 → MS → Prop} (C : mC p m c cX5_findPairs 2 s args meth (Option.none : Option Jvm.ClassFile.FieldType) A) (hT7 : ∀ (x1 : Int32) (S : MS), T7 x1 S → ∀ (H : Heap) (locs : List Loc) (ls : Array Slot), lv_has ls 2 [(0, .ref (o 0)), (1, .int x1)] → mw D dA o A s S H locs → W p l e rM_findPairs s m args below meth c H locs 0 0 (mQv below args s D dA o A post) (F0 m 7 ls [])) {S : MS} (h : M_findPairs_w0 post T7 S) {H : Heap} {locs : List Loc} {ls : Array Slot} (hl : lv_has ls 2 [(0, .ref (o 0))]) (w : mw D dA o A s S H locs) : W p l e rM_findPairs s m args below meth c H locs 0 0 (mQv below args s D dA o A post) (F0 m 0 ls []) := by
  unfold M_findPairs_w0 at h
  obtain ⟨⟨hx, hb, hml, hown, hts⟩, hr, hlk, hA⟩ := id C
  refine lv_aload_n hx hb dX5_findPairs_0 rfl (lv_at hl 0 rfl) ?_
  refine lv_iconst (v := 0) hx hb dX5_findPairs_1 (by decide) ?_
  refine mr_put (ty := .int) C w 12 (by decide) q589 rfl rfl (by decide +kernel) rfl rfl MWf_12 dX5_findPairs_2 (fun H locs w => ?_)
  refine lv_iconst (v := 0) hx hb dX5_findPairs_5 (by decide) ?_
  refine lv_istore_n (lv' := [(1, .int _), (0, .ref _)]) hx hb dX5_findPairs_6 rfl hl (by decide) rfl (fun ls hl => ?_)
  exact hT7 _ _ h _ _ _ (lv_sub hl [1, 0] rfl) w
def M_findPairs_VC (S : MS) (post : MS → Prop) : Prop := ∀ (T7 : Int32 → MS → Prop), (∀ (x1 : Int32) (S : MS), M_findPairs_w7 post T7 x1 S → T7 x1 S) → M_findPairs_w0 post T7 S
theorem M_findPairs_ok {S : MS} {post : MS → Prop} (h : M_findPairs_VC S post) : M_findPairs S post := by
  intro l D dA o sz
  refine mr_start (fun A => va_Qv post (mB D dA o A) A) rfl (Nat.le_of_ble_eq_true rfl) (by decide) ?_
  intro p e s m args below meth c ls A C w hl
  have hl : lv_has ls 2 [(0, .ref (o 0))] := hl
  have h := h (fun (x1 : Int32) S => ∀ (H : Heap) (locs : List Loc) (ls : Array Slot), lv_has ls 2 [(0, .ref (o 0)), (1, .int x1)] → mw D dA o A s S H locs → W p l e rM_findPairs s m args below meth c H locs 0 0 (mQv below args s D dA o A post) (F0 m 7 ls [])) (fun _ S h H locs ls hl w => M_findPairs_a7 C (fun _ _ h => h) h hl w)
  exact M_findPairs_a0 C (fun _ _ h => h) h (lv_sub hl [0] rfl) w

/-! goAround(I)Z -/
def M_goAround_w270 (post : Int32 → MS → Prop) (T29 : Int32 → Int32 → Int32 → Int32 → MS → Prop) (T68 : Int32 → Int32 → Int32 → Int32 → Int32 → Int32 → Int32 → MS → Prop) (T102 : Int32 → Int32 → Int32 → Int32 → Int32 → Int32 → Int32 → MS → Prop) (v0 : Int32) (x2 : Int32) (x3 : Int32) (x4 : Int32) (x5 : Int32) (x6 : Int32) (x7 : Int32) (S : MS) : Prop :=
  T102 x2 x3 x4 x5 x6 x7 v0 S
set_option maxHeartbeats 4000000 in
set_option maxRecDepth 100000 in
theorem M_goAround_a270 {p : Program} {l : Launch} {e : Env} {s : State} {m : MethodId} {args : Array Value} {below : List Frame} {meth : Method} {c : Code} {D : va_G} {dA : Nat → ClassId} {o : Nat → Nat} {A : Nat → Prop} {post : Int32 → MS → Prop} {T29 : Int32 → Int32 → Int32 → Int32 → MS → Prop} {T68 : Int32 → Int32 → Int32 → Int32 → Int32 → Int32 → Int32 → MS → Prop} {T102 : Int32 → Int32 → Int32 → Int32 → Int32 → Int32 → Int32 → MS → Prop} (C : mC p m c cX5_goAround 14 s args meth (Option.some Jvm.ClassFile.FieldType.boolean) A) (hT29 : ∀ (x2 : Int32) (x3 : Int32) (x4 : Int32) (x5 : Int32) (S : MS), T29 x2 x3 x4 x5 S → ∀ (H : Heap) (locs : List Loc) (ls : Array Slot), lv_has ls 14 [(0, .ref (o 0)), (2, .int x2), (3, .int x3), (4, .int x4), (5, .int x5)] → mw D dA o A s S H locs → W p l e rM_goAround s m args below meth c H locs 0 0 (mQi below args s D dA o A post) (F0 m 29 ls [])) (hT68 : ∀ (x2 : Int32) (x3 : Int32) (x4 : Int32) (x5 : Int32) (x6 : Int32) (x7 : Int32) (x8 : Int32) (S : MS), T68 x2 x3 x4 x5 x6 x7 x8 S → ∀ (H : Heap) (locs : List Loc) (ls : Array Slot), lv_has ls 14 [(0, .ref (o 0)), (2, .int x2), (3, .int x3), (4, .int x4), (5, .int x5), (6, .int x6), (7, .int x7), (8, .int x8)] → mw D dA o A s S H locs → W p l e rM_goAround s m args below meth c H locs 0 0 (mQi below args s D dA o A post) (F0 m 68 ls [])) (hT102 : ∀ (x2 : Int32) (x3 : Int32) (x4 : Int32) (x5 : Int32) (x6 : Int32) (x7 : Int32) (x8 : Int32) (S : MS), T102 x2 x3 x4 x5 x6 x7 x8 S → ∀ (H : Heap) (locs : List Loc) (ls : Array Slot), lv_has ls 14 [(0, .ref (o 0)), (2, .int x2), (3, .int x3), (4, .int x4), (5, .int x5), (6, .int x6), (7, .int x7), (8, .int x8)] → mw D dA o A s S H locs → W p l e rM_goAround s m args below meth c H locs 0 0 (mQi below args s D dA o A post) (F0 m 102 ls [])) {v0 : Int32} {x2 : Int32} {x3 : Int32} {x4 : Int32} {x5 : Int32} {x6 : Int32} {x7 : Int32} {S : MS} (h : M_goAround_w270 post T29 T68 T102 v0 x2 x3 x4 x5 x6 x7 S) {H : Heap} {locs : List Loc} {ls : Array Slot} (hl : lv_has ls 14 [(0, .ref (o 0)), (2, .int x2), (3, .int x3), (4, .int x4), (5, .int x5), (6, .int x6), (7, .int x7)]) (w : mw D dA o A s S H locs) : W p l e rM_goAround s m args below meth c H locs 0 0 (mQi below args s D dA o A post) (F0 m 270 ls [.int v0]) := by
  unfold M_goAround_w270 at h
  obtain ⟨⟨hx, hb, hml, hown, hts⟩, hr, hlk, hA⟩ := id C
  refine lv_istore (lv' := [(8, .int _), (0, .ref _), (2, .int _), (3, .int _), (4, .int _), (5, .int _), (6, .int _), (7, .int _)]) hx hb dX5_goAround_270 hl (by decide) rfl (fun ls hl => ?_)
  refine lv_goto (tgt := 102) hx hb dX5_goAround_272 (by decide) ?_
  exact hT102 _ _ _ _ _ _ _ _ h _ _ _ (lv_sub hl [1, 2, 3, 4, 5, 6, 7, 0] rfl) w
def M_goAround_w265 (post : Int32 → MS → Prop) (T29 : Int32 → Int32 → Int32 → Int32 → MS → Prop) (T68 : Int32 → Int32 → Int32 → Int32 → Int32 → Int32 → Int32 → MS → Prop) (T102 : Int32 → Int32 → Int32 → Int32 → Int32 → Int32 → Int32 → MS → Prop) (x2 : Int32) (x3 : Int32) (x4 : Int32) (x5 : Int32) (x6 : Int32) (x7 : Int32) (S : MS) : Prop :=
  M_goAround_w270 post T29 T68 T102 (1 : Int32) x2 x3 x4 x5 x6 x7 S
set_option maxHeartbeats 4000000 in
set_option maxRecDepth 100000 in
theorem M_goAround_a265 {p : Program} {l : Launch} {e : Env} {s : State} {m : MethodId} {args : Array Value} {below : List Frame} {meth : Method} {c : Code} {D : va_G} {dA : Nat → ClassId} {o : Nat → Nat} {A : Nat → Prop} {post : Int32 → MS → Prop} {T29 : Int32 → Int32 → Int32 → Int32 → MS → Prop} {T68 : Int32 → Int32 → Int32 → Int32 → Int32 → Int32 → Int32 → MS → Prop} {T102 : Int32 → Int32 → Int32 → Int32 → Int32 → Int32 → Int32 → MS → Prop} (C : mC p m c cX5_goAround 14 s args meth (Option.some Jvm.ClassFile.FieldType.boolean) A) (hT29 : ∀ (x2 : Int32) (x3 : Int32) (x4 : Int32) (x5 : Int32) (S : MS), T29 x2 x3 x4 x5 S → ∀ (H : Heap) (locs : List Loc) (ls : Array Slot), lv_has ls 14 [(0, .ref (o 0)), (2, .int x2), (3, .int x3), (4, .int x4), (5, .int x5)] → mw D dA o A s S H locs → W p l e rM_goAround s m args below meth c H locs 0 0 (mQi below args s D dA o A post) (F0 m 29 ls [])) (hT68 : ∀ (x2 : Int32) (x3 : Int32) (x4 : Int32) (x5 : Int32) (x6 : Int32) (x7 : Int32) (x8 : Int32) (S : MS), T68 x2 x3 x4 x5 x6 x7 x8 S → ∀ (H : Heap) (locs : List Loc) (ls : Array Slot), lv_has ls 14 [(0, .ref (o 0)), (2, .int x2), (3, .int x3), (4, .int x4), (5, .int x5), (6, .int x6), (7, .int x7), (8, .int x8)] → mw D dA o A s S H locs → W p l e rM_goAround s m args below meth c H locs 0 0 (mQi below args s D dA o A post) (F0 m 68 ls [])) (hT102 : ∀ (x2 : Int32) (x3 : Int32) (x4 : Int32) (x5 : Int32) (x6 : Int32) (x7 : Int32) (x8 : Int32) (S : MS), T102 x2 x3 x4 x5 x6 x7 x8 S → ∀ (H : Heap) (locs : List Loc) (ls : Array Slot), lv_has ls 14 [(0, .ref (o 0)), (2, .int x2), (3, .int x3), (4, .int x4), (5, .int x5), (6, .int x6), (7, .int x7), (8, .int x8)] → mw D dA o A s S H locs → W p l e rM_goAround s m args below meth c H locs 0 0 (mQi below args s D dA o A post) (F0 m 102 ls [])) {x2 : Int32} {x3 : Int32} {x4 : Int32} {x5 : Int32} {x6 : Int32} {x7 : Int32} {S : MS} (h : M_goAround_w265 post T29 T68 T102 x2 x3 x4 x5 x6 x7 S) {H : Heap} {locs : List Loc} {ls : Array Slot} (hl : lv_has ls 14 [(0, .ref (o 0)), (2, .int x2), (3, .int x3), (4, .int x4), (5, .int x5), (6, .int x6), (7, .int x7)]) (w : mw D dA o A s S H locs) : W p l e rM_goAround s m args below meth c H locs 0 0 (mQi below args s D dA o A post) (F0 m 265 ls []) := by
  unfold M_goAround_w265 at h
  obtain ⟨⟨hx, hb, hml, hown, hts⟩, hr, hlk, hA⟩ := id C
  refine lv_iconst (v := 1) hx hb dX5_goAround_265 (by decide) ?_
  refine lv_goto (tgt := 270) hx hb dX5_goAround_266 (by decide) ?_
  exact M_goAround_a270 C hT29 hT68 hT102 h (lv_sub hl [0, 1, 2, 3, 4, 5, 6] rfl) w
def M_goAround_w168 (post : Int32 → MS → Prop) (T29 : Int32 → Int32 → Int32 → Int32 → MS → Prop) (T68 : Int32 → Int32 → Int32 → Int32 → Int32 → Int32 → Int32 → MS → Prop) (T102 : Int32 → Int32 → Int32 → Int32 → Int32 → Int32 → Int32 → MS → Prop) (v0 : Int64) (v1 : Int64) (v2 : Int32) (x3 : Int32) (x4 : Int32) (x6 : Int32) (x7 : Int32) (x9 : Int32) (S : MS) : Prop :=
  (vp_in v2 108 ∧ (fun (S1 : MS) => (vp_in x9 12 ∧ (vp_in x9 12 ∧ (vp_in (((4 : Int32) * x9) + x3) 48 ∧ (vp_in (((4 : Int32) * x9) + x4) 48 ∧ ((¬ ((((16 : Int32) * ((gI S1 1 (x9).toNatClampNeg) / (4 : Int32))) + ((4 : Int32) * (gI S1 2 ((((4 : Int32) * x9) + x3)).toNatClampNeg))) + (gI S1 2 ((((4 : Int32) * x9) + x4)).toNatClampNeg)) = x6 → M_goAround_w265 post T29 T68 T102 ((gI S1 1 (x9).toNatClampNeg) / (4 : Int32)) (gI S1 2 ((((4 : Int32) * x9) + x3)).toNatClampNeg) (gI S1 2 ((((4 : Int32) * x9) + x4)).toNatClampNeg) ((((6 : Int32) - (gI S1 2 ((((4 : Int32) * x9) + x3)).toNatClampNeg)) - (gI S1 2 ((((4 : Int32) * x9) + x4)).toNatClampNeg)) - ((gI S1 1 (x9).toNatClampNeg) - (gI S1 1 (x9).toNatClampNeg) / (4 : Int32) * (4 : Int32))) x6 x7 S1) ∧ (((((16 : Int32) * ((gI S1 1 (x9).toNatClampNeg) / (4 : Int32))) + ((4 : Int32) * (gI S1 2 ((((4 : Int32) * x9) + x3)).toNatClampNeg))) + (gI S1 2 ((((4 : Int32) * x9) + x4)).toNatClampNeg)) = x6 → ((((((6 : Int32) - (gI S1 2 ((((4 : Int32) * x9) + x3)).toNatClampNeg)) - (gI S1 2 ((((4 : Int32) * x9) + x4)).toNatClampNeg)) - ((gI S1 1 (x9).toNatClampNeg) - (gI S1 1 (x9).toNatClampNeg) / (4 : Int32) * (4 : Int32))) = x7 → M_goAround_w270 post T29 T68 T102 (0 : Int32) ((gI S1 1 (x9).toNatClampNeg) / (4 : Int32)) (gI S1 2 ((((4 : Int32) * x9) + x3)).toNatClampNeg) (gI S1 2 ((((4 : Int32) * x9) + x4)).toNatClampNeg) ((((6 : Int32) - (gI S1 2 ((((4 : Int32) * x9) + x3)).toNatClampNeg)) - (gI S1 2 ((((4 : Int32) * x9) + x4)).toNatClampNeg)) - ((gI S1 1 (x9).toNatClampNeg) - (gI S1 1 (x9).toNatClampNeg) / (4 : Int32) * (4 : Int32))) x6 x7 S1) ∧ (¬ ((((6 : Int32) - (gI S1 2 ((((4 : Int32) * x9) + x3)).toNatClampNeg)) - (gI S1 2 ((((4 : Int32) * x9) + x4)).toNatClampNeg)) - ((gI S1 1 (x9).toNatClampNeg) - (gI S1 1 (x9).toNatClampNeg) / (4 : Int32) * (4 : Int32))) = x7 → M_goAround_w265 post T29 T68 T102 ((gI S1 1 (x9).toNatClampNeg) / (4 : Int32)) (gI S1 2 ((((4 : Int32) * x9) + x3)).toNatClampNeg) (gI S1 2 ((((4 : Int32) * x9) + x4)).toNatClampNeg) ((((6 : Int32) - (gI S1 2 ((((4 : Int32) * x9) + x3)).toNatClampNeg)) - (gI S1 2 ((((4 : Int32) * x9) + x4)).toNatClampNeg)) - ((gI S1 1 (x9).toNatClampNeg) - (gI S1 1 (x9).toNatClampNeg) / (4 : Int32) * (4 : Int32))) x6 x7 S1))))))))) (sL S (v2).toNatClampNeg (v1 + v0)))
set_option maxHeartbeats 4000000 in
set_option maxRecDepth 100000 in
theorem M_goAround_a168 {p : Program} {l : Launch} {e : Env} {s : State} {m : MethodId} {args : Array Value} {below : List Frame} {meth : Method} {c : Code} {D : va_G} {dA : Nat → ClassId} {o : Nat → Nat} {A : Nat → Prop} {post : Int32 → MS → Prop} {T29 : Int32 → Int32 → Int32 → Int32 → MS → Prop} {T68 : Int32 → Int32 → Int32 → Int32 → Int32 → Int32 → Int32 → MS → Prop} {T102 : Int32 → Int32 → Int32 → Int32 → Int32 → Int32 → Int32 → MS → Prop} (C : mC p m c cX5_goAround 14 s args meth (Option.some Jvm.ClassFile.FieldType.boolean) A) (hT29 : ∀ (x2 : Int32) (x3 : Int32) (x4 : Int32) (x5 : Int32) (S : MS), T29 x2 x3 x4 x5 S → ∀ (H : Heap) (locs : List Loc) (ls : Array Slot), lv_has ls 14 [(0, .ref (o 0)), (2, .int x2), (3, .int x3), (4, .int x4), (5, .int x5)] → mw D dA o A s S H locs → W p l e rM_goAround s m args below meth c H locs 0 0 (mQi below args s D dA o A post) (F0 m 29 ls [])) (hT68 : ∀ (x2 : Int32) (x3 : Int32) (x4 : Int32) (x5 : Int32) (x6 : Int32) (x7 : Int32) (x8 : Int32) (S : MS), T68 x2 x3 x4 x5 x6 x7 x8 S → ∀ (H : Heap) (locs : List Loc) (ls : Array Slot), lv_has ls 14 [(0, .ref (o 0)), (2, .int x2), (3, .int x3), (4, .int x4), (5, .int x5), (6, .int x6), (7, .int x7), (8, .int x8)] → mw D dA o A s S H locs → W p l e rM_goAround s m args below meth c H locs 0 0 (mQi below args s D dA o A post) (F0 m 68 ls [])) (hT102 : ∀ (x2 : Int32) (x3 : Int32) (x4 : Int32) (x5 : Int32) (x6 : Int32) (x7 : Int32) (x8 : Int32) (S : MS), T102 x2 x3 x4 x5 x6 x7 x8 S → ∀ (H : Heap) (locs : List Loc) (ls : Array Slot), lv_has ls 14 [(0, .ref (o 0)), (2, .int x2), (3, .int x3), (4, .int x4), (5, .int x5), (6, .int x6), (7, .int x7), (8, .int x8)] → mw D dA o A s S H locs → W p l e rM_goAround s m args below meth c H locs 0 0 (mQi below args s D dA o A post) (F0 m 102 ls [])) {v0 : Int64} {v1 : Int64} {v2 : Int32} {x3 : Int32} {x4 : Int32} {x6 : Int32} {x7 : Int32} {x9 : Int32} {S : MS} (h : M_goAround_w168 post T29 T68 T102 v0 v1 v2 x3 x4 x6 x7 x9 S) {H : Heap} {locs : List Loc} {ls : Array Slot} (hl : lv_has ls 14 [(0, .ref (o 0)), (3, .int x3), (4, .int x4), (6, .int x6), (7, .int x7), (9, .int x9)]) (w : mw D dA o A s S H locs) : W p l e rM_goAround s m args below meth c H locs 0 0 (mQi below args s D dA o A post) (F0 m 168 ls [.long v0, .long v1, .int v2, .ref (o 10)]) := by
  unfold M_goAround_w168 at h
  obtain ⟨⟨hx, hb, hml, hown, hts⟩, hr, hlk, hA⟩ := id C
  refine lv_ladd hx hb dX5_goAround_168 ?_
  obtain ⟨hi, h⟩ := h
  refine mr_last C w hi dX5_goAround_169 (fun H locs w => ?_)
  refine lv_aload_n hx hb dX5_goAround_170 rfl (lv_at hl 0 rfl) ?_
  refine mr_get C w 1 (by decide) q578 rfl rfl dX5_goAround_171 ?_
  refine lv_iload hx hb dX5_goAround_174 (lv_at hl 5 rfl) ?_
  obtain ⟨hi, h⟩ := h
  refine mr_iald C w 1 0 rfl rfl hi dX5_goAround_176 ?_
  refine lv_iconst (v := 4) hx hb dX5_goAround_177 (by decide) ?_
  refine lv_idiv hx hb dX5_goAround_178 (by decide) ?_
  refine lv_istore (lv' := [(10, .int _), (0, .ref _), (3, .int _), (4, .int _), (6, .int _), (7, .int _), (9, .int _)]) hx hb dX5_goAround_179 hl (by decide) rfl (fun ls hl => ?_)
  refine lv_aload_n hx hb dX5_goAround_181 rfl (lv_at hl 1 rfl) ?_
  refine mr_get C w 1 (by decide) q578 rfl rfl dX5_goAround_182 ?_
  refine lv_iload hx hb dX5_goAround_185 (lv_at hl 6 rfl) ?_
  obtain ⟨hi, h⟩ := h
  refine mr_iald C w 1 0 rfl rfl hi dX5_goAround_187 ?_
  refine lv_iconst (v := 4) hx hb dX5_goAround_188 (by decide) ?_
  refine lv_irem hx hb dX5_goAround_189 (by decide) ?_
  refine lv_istore (lv' := [(11, .int _), (10, .int _), (0, .ref _), (3, .int _), (4, .int _), (6, .int _), (7, .int _), (9, .int _)]) hx hb dX5_goAround_190 hl (by decide) rfl (fun ls hl => ?_)
  refine lv_aload_n hx hb dX5_goAround_192 rfl (lv_at hl 2 rfl) ?_
  refine mr_get C w 2 (by decide) q579 rfl rfl dX5_goAround_193 ?_
  refine lv_iconst (v := 4) hx hb dX5_goAround_196 (by decide) ?_
  refine lv_iload hx hb dX5_goAround_197 (lv_at hl 7 rfl) ?_
  refine lv_imul hx hb dX5_goAround_199 ?_
  refine lv_iload_n hx hb dX5_goAround_200 rfl (lv_at hl 3 rfl) ?_
  refine lv_iadd hx hb dX5_goAround_201 ?_
  obtain ⟨hi, h⟩ := h
  refine mr_iald C w 2 1 rfl rfl hi dX5_goAround_202 ?_
  refine lv_istore (lv' := [(12, .int _), (11, .int _), (10, .int _), (0, .ref _), (3, .int _), (4, .int _), (6, .int _), (7, .int _), (9, .int _)]) hx hb dX5_goAround_203 hl (by decide) rfl (fun ls hl => ?_)
  refine lv_aload_n hx hb dX5_goAround_205 rfl (lv_at hl 3 rfl) ?_
  refine mr_get C w 2 (by decide) q579 rfl rfl dX5_goAround_206 ?_
  refine lv_iconst (v := 4) hx hb dX5_goAround_209 (by decide) ?_
  refine lv_iload hx hb dX5_goAround_210 (lv_at hl 8 rfl) ?_
  refine lv_imul hx hb dX5_goAround_212 ?_
  refine lv_iload hx hb dX5_goAround_213 (lv_at hl 5 rfl) ?_
  refine lv_iadd hx hb dX5_goAround_215 ?_
  obtain ⟨hi, h⟩ := h
  refine mr_iald C w 2 1 rfl rfl hi dX5_goAround_216 ?_
  refine lv_istore (lv' := [(13, .int _), (12, .int _), (11, .int _), (10, .int _), (0, .ref _), (3, .int _), (4, .int _), (6, .int _), (7, .int _), (9, .int _)]) hx hb dX5_goAround_217 hl (by decide) rfl (fun ls hl => ?_)
  refine lv_bipush (v := 6) hx hb dX5_goAround_219 (by decide) ?_
  refine lv_iload hx hb dX5_goAround_221 (lv_at hl 1 rfl) ?_
  refine lv_isub hx hb dX5_goAround_223 ?_
  refine lv_iload hx hb dX5_goAround_224 (lv_at hl 0 rfl) ?_
  refine lv_isub hx hb dX5_goAround_226 ?_
  refine lv_iload hx hb dX5_goAround_227 (lv_at hl 2 rfl) ?_
  refine lv_isub hx hb dX5_goAround_229 ?_
  refine lv_istore (lv' := [(5, .int _), (13, .int _), (12, .int _), (11, .int _), (10, .int _), (0, .ref _), (3, .int _), (4, .int _), (6, .int _), (7, .int _), (9, .int _)]) hx hb dX5_goAround_230 hl (by decide) rfl (fun ls hl => ?_)
  refine lv_iload hx hb dX5_goAround_232 (lv_at hl 4 rfl) ?_
  refine lv_istore_n (lv' := [(2, .int _), (5, .int _), (13, .int _), (12, .int _), (11, .int _), (10, .int _), (0, .ref _), (3, .int _), (4, .int _), (6, .int _), (7, .int _), (9, .int _)]) hx hb dX5_goAround_234 rfl hl (by decide) rfl (fun ls hl => ?_)
  refine lv_iload hx hb dX5_goAround_235 (lv_at hl 3 rfl) ?_
  refine lv_istore_n (lv' := [(3, .int _), (2, .int _), (5, .int _), (13, .int _), (12, .int _), (11, .int _), (10, .int _), (0, .ref _), (4, .int _), (6, .int _), (7, .int _), (9, .int _)]) hx hb dX5_goAround_237 rfl hl (by decide) rfl (fun ls hl => ?_)
  refine lv_iload hx hb dX5_goAround_238 (lv_at hl 3 rfl) ?_
  refine lv_istore (lv' := [(4, .int _), (3, .int _), (2, .int _), (5, .int _), (13, .int _), (12, .int _), (11, .int _), (10, .int _), (0, .ref _), (6, .int _), (7, .int _), (9, .int _)]) hx hb dX5_goAround_240 hl (by decide) rfl (fun ls hl => ?_)
  refine lv_bipush (v := 16) hx hb dX5_goAround_242 (by decide) ?_
  refine lv_iload_n hx hb dX5_goAround_244 rfl (lv_at hl 2 rfl) ?_
  refine lv_imul hx hb dX5_goAround_245 ?_
  refine lv_iconst (v := 4) hx hb dX5_goAround_246 (by decide) ?_
  refine lv_iload_n hx hb dX5_goAround_247 rfl (lv_at hl 1 rfl) ?_
  refine lv_imul hx hb dX5_goAround_248 ?_
  refine lv_iadd hx hb dX5_goAround_249 ?_
  refine lv_iload hx hb dX5_goAround_250 (lv_at hl 0 rfl) ?_
  refine lv_iadd hx hb dX5_goAround_252 ?_
  refine lv_iload hx hb dX5_goAround_253 (lv_at hl 9 rfl) ?_
  obtain ⟨h1, h2⟩ := h
  refine lv_icmp_ne (tgt := 265) hx hb dX5_goAround_255 (by decide) (fun c1 => ?_) (fun c1 => ?_)
  · have h := h1 c1
    exact M_goAround_a265 C hT29 hT68 hT102 h (lv_sub hl [8, 2, 1, 0, 3, 9, 10] rfl) w
  · have h := h2 c1
    refine lv_iload hx hb dX5_goAround_258 (lv_at hl 3 rfl) ?_
    refine lv_iload hx hb dX5_goAround_260 (lv_at hl 10 rfl) ?_
    obtain ⟨h1, h2⟩ := h
    refine lv_icmp_eq (tgt := 269) hx hb dX5_goAround_262 (by decide) (fun c1 => ?_) (fun c1 => ?_)
    · have h := h1 c1
      refine lv_iconst (v := 0) hx hb dX5_goAround_269 (by decide) ?_
      exact M_goAround_a270 C hT29 hT68 hT102 h (lv_sub hl [8, 2, 1, 0, 3, 9, 10] rfl) w
    · have h := h2 c1
      exact M_goAround_a265 C hT29 hT68 hT102 h (lv_sub hl [8, 2, 1, 0, 3, 9, 10] rfl) w
def M_goAround_w102 (post : Int32 → MS → Prop) (T29 : Int32 → Int32 → Int32 → Int32 → MS → Prop) (T68 : Int32 → Int32 → Int32 → Int32 → Int32 → Int32 → Int32 → MS → Prop) (T102 : Int32 → Int32 → Int32 → Int32 → Int32 → Int32 → Int32 → MS → Prop) (x2 : Int32) (x3 : Int32) (x4 : Int32) (x5 : Int32) (x6 : Int32) (x7 : Int32) (x8 : Int32) (S : MS) : Prop :=
  ((x8 = 0 → post (1 : Int32) S) ∧ (¬ x8 = 0 → (vp_in (((4 : Int32) * x2) + x5) 12 ∧ ((¬ (gI S 1 ((((4 : Int32) * x2) + x5)).toNatClampNeg) = (-1 : Int32) → (vp_in (((4 : Int32) * x2) + x5) 12 ∧ (vp_in (((6 : Int32) * (gF S 11)) + (gI S 13 ((((4 : Int32) * x2) + x5)).toNatClampNeg)) 108 ∧ (vp_in (((4 : Int32) * x2) + x5) 12 ∧ (((gI S 1 ((((4 : Int32) * x2) + x5)).toNatClampNeg) ≤ (((4 : Int32) * x2) + x5) → M_goAround_w168 post T29 T68 T102 (-1 : Int64) (gL S ((((6 : Int32) * (gF S 11)) + (gI S 13 ((((4 : Int32) * x2) + x5)).toNatClampNeg))).toNatClampNeg) (((6 : Int32) * (gF S 11)) + (gI S 13 ((((4 : Int32) * x2) + x5)).toNatClampNeg)) x3 x4 x6 x7 (((4 : Int32) * x2) + x5) S) ∧ (¬ (gI S 1 ((((4 : Int32) * x2) + x5)).toNatClampNeg) ≤ (((4 : Int32) * x2) + x5) → M_goAround_w168 post T29 T68 T102 (1 : Int64) (gL S ((((6 : Int32) * (gF S 11)) + (gI S 13 ((((4 : Int32) * x2) + x5)).toNatClampNeg))).toNatClampNeg) (((6 : Int32) * (gF S 11)) + (gI S 13 ((((4 : Int32) * x2) + x5)).toNatClampNeg)) x3 x4 x6 x7 (((4 : Int32) * x2) + x5) S)))))) ∧ ((gI S 1 ((((4 : Int32) * x2) + x5)).toNatClampNeg) = (-1 : Int32) → post (0 : Int32) S)))))
set_option maxHeartbeats 4000000 in
set_option maxRecDepth 100000 in
theorem M_goAround_a102 {p : Program} {l : Launch} {e : Env} {s : State} {m : MethodId} {args : Array Value} {below : List Frame} {meth : Method} {c : Code} {D : va_G} {dA : Nat → ClassId} {o : Nat → Nat} {A : Nat → Prop} {post : Int32 → MS → Prop} {T29 : Int32 → Int32 → Int32 → Int32 → MS → Prop} {T68 : Int32 → Int32 → Int32 → Int32 → Int32 → Int32 → Int32 → MS → Prop} {T102 : Int32 → Int32 → Int32 → Int32 → Int32 → Int32 → Int32 → MS → Prop} (C : mC p m c cX5_goAround 14 s args meth (Option.some Jvm.ClassFile.FieldType.boolean) A) (hT29 : ∀ (x2 : Int32) (x3 : Int32) (x4 : Int32) (x5 : Int32) (S : MS), T29 x2 x3 x4 x5 S → ∀ (H : Heap) (locs : List Loc) (ls : Array Slot), lv_has ls 14 [(0, .ref (o 0)), (2, .int x2), (3, .int x3), (4, .int x4), (5, .int x5)] → mw D dA o A s S H locs → W p l e rM_goAround s m args below meth c H locs 0 0 (mQi below args s D dA o A post) (F0 m 29 ls [])) (hT68 : ∀ (x2 : Int32) (x3 : Int32) (x4 : Int32) (x5 : Int32) (x6 : Int32) (x7 : Int32) (x8 : Int32) (S : MS), T68 x2 x3 x4 x5 x6 x7 x8 S → ∀ (H : Heap) (locs : List Loc) (ls : Array Slot), lv_has ls 14 [(0, .ref (o 0)), (2, .int x2), (3, .int x3), (4, .int x4), (5, .int x5), (6, .int x6), (7, .int x7), (8, .int x8)] → mw D dA o A s S H locs → W p l e rM_goAround s m args below meth c H locs 0 0 (mQi below args s D dA o A post) (F0 m 68 ls [])) (hT102 : ∀ (x2 : Int32) (x3 : Int32) (x4 : Int32) (x5 : Int32) (x6 : Int32) (x7 : Int32) (x8 : Int32) (S : MS), T102 x2 x3 x4 x5 x6 x7 x8 S → ∀ (H : Heap) (locs : List Loc) (ls : Array Slot), lv_has ls 14 [(0, .ref (o 0)), (2, .int x2), (3, .int x3), (4, .int x4), (5, .int x5), (6, .int x6), (7, .int x7), (8, .int x8)] → mw D dA o A s S H locs → W p l e rM_goAround s m args below meth c H locs 0 0 (mQi below args s D dA o A post) (F0 m 102 ls [])) {x2 : Int32} {x3 : Int32} {x4 : Int32} {x5 : Int32} {x6 : Int32} {x7 : Int32} {x8 : Int32} {S : MS} (h : M_goAround_w102 post T29 T68 T102 x2 x3 x4 x5 x6 x7 x8 S) {H : Heap} {locs : List Loc} {ls : Array Slot} (hl : lv_has ls 14 [(0, .ref (o 0)), (2, .int x2), (3, .int x3), (4, .int x4), (5, .int x5), (6, .int x6), (7, .int x7), (8, .int x8)]) (w : mw D dA o A s S H locs) : W p l e rM_goAround s m args below meth c H locs 0 0 (mQi below args s D dA o A post) (F0 m 102 ls []) := by
  unfold M_goAround_w102 at h
  obtain ⟨⟨hx, hb, hml, hown, hts⟩, hr, hlk, hA⟩ := id C
  refine lv_iload hx hb dX5_goAround_102 (lv_at hl 7 rfl) ?_
  obtain ⟨h1, h2⟩ := h
  refine lv_if_eq (tgt := 275) hx hb dX5_goAround_104 (by decide) (fun c1 => ?_) (fun c1 => ?_)
  · have h := h1 c1
    refine lv_iconst (v := 1) hx hb dX5_goAround_275 (by decide) ?_
    exact mr_zret C w rfl h dX5_goAround_276
  · have h := h2 c1
    refine lv_iconst (v := 4) hx hb dX5_goAround_107 (by decide) ?_
    refine lv_iload_n hx hb dX5_goAround_108 rfl (lv_at hl 1 rfl) ?_
    refine lv_imul hx hb dX5_goAround_109 ?_
    refine lv_iload hx hb dX5_goAround_110 (lv_at hl 4 rfl) ?_
    refine lv_iadd hx hb dX5_goAround_112 ?_
    refine lv_istore (lv' := [(9, .int _), (0, .ref _), (2, .int _), (3, .int _), (4, .int _), (5, .int _), (6, .int _), (7, .int _), (8, .int _)]) hx hb dX5_goAround_113 hl (by decide) rfl (fun ls hl => ?_)
    refine lv_aload_n hx hb dX5_goAround_115 rfl (lv_at hl 1 rfl) ?_
    refine mr_get C w 1 (by decide) q578 rfl rfl dX5_goAround_116 ?_
    refine lv_iload hx hb dX5_goAround_119 (lv_at hl 0 rfl) ?_
    obtain ⟨hi, h⟩ := h
    refine mr_iald C w 1 0 rfl rfl hi dX5_goAround_121 ?_
    refine lv_iconst (v := -1) hx hb dX5_goAround_122 (by decide) ?_
    obtain ⟨h1, h2⟩ := h
    refine lv_icmp_ne (tgt := 128) hx hb dX5_goAround_123 (by decide) (fun c1 => ?_) (fun c1 => ?_)
    · have h := h1 c1
      refine lv_aload_n hx hb dX5_goAround_128 rfl (lv_at hl 1 rfl) ?_
      refine mr_get C w 10 (by decide) q587 rfl rfl dX5_goAround_129 ?_
      refine lv_bipush (v := 6) hx hb dX5_goAround_132 (by decide) ?_
      refine lv_aload_n hx hb dX5_goAround_134 rfl (lv_at hl 1 rfl) ?_
      refine mr_get C w 11 (by decide) q588 rfl rfl dX5_goAround_135 ?_
      refine lv_imul hx hb dX5_goAround_138 ?_
      refine lv_aload_n hx hb dX5_goAround_139 rfl (lv_at hl 1 rfl) ?_
      refine mr_get C w 13 (by decide) q590 rfl rfl dX5_goAround_140 ?_
      refine lv_iload hx hb dX5_goAround_143 (lv_at hl 0 rfl) ?_
      obtain ⟨hi, h⟩ := h
      refine mr_iald C w 10 9 rfl rfl hi dX5_goAround_145 ?_
      refine lv_iadd hx hb dX5_goAround_146 ?_
      refine lv_dup2_11 hx hb dX5_goAround_147 rfl rfl ?_
      obtain ⟨hi, h⟩ := h
      refine mr_lald C w hi dX5_goAround_148 ?_
      refine lv_iload hx hb dX5_goAround_149 (lv_at hl 0 rfl) ?_
      refine lv_aload_n hx hb dX5_goAround_151 rfl (lv_at hl 1 rfl) ?_
      refine mr_get C w 1 (by decide) q578 rfl rfl dX5_goAround_152 ?_
      refine lv_iload hx hb dX5_goAround_155 (lv_at hl 0 rfl) ?_
      obtain ⟨hi, h⟩ := h
      refine mr_iald C w 1 0 rfl rfl hi dX5_goAround_157 ?_
      obtain ⟨h1, h2⟩ := h
      refine lv_icmp_ge (tgt := 165) hx hb dX5_goAround_158 (by decide) (fun c1 => ?_) (fun c1 => ?_)
      · have h := h1 c1
        refine lv_ldc2 hx hb hown (hts _ q803) dX5_goAround_165 ?_
        exact M_goAround_a168 C hT29 hT68 hT102 h (lv_sub hl [1, 3, 4, 6, 7, 0] rfl) w
      · have h := h2 c1
        refine lv_lconst (v := 1) hx hb dX5_goAround_161 (by decide) ?_
        refine lv_goto (tgt := 168) hx hb dX5_goAround_162 (by decide) ?_
        exact M_goAround_a168 C hT29 hT68 hT102 h (lv_sub hl [1, 3, 4, 6, 7, 0] rfl) w
    · have h := h2 c1
      refine lv_iconst (v := 0) hx hb dX5_goAround_126 (by decide) ?_
      exact mr_zret C w rfl h dX5_goAround_127
def M_goAround_w68 (post : Int32 → MS → Prop) (T29 : Int32 → Int32 → Int32 → Int32 → MS → Prop) (T68 : Int32 → Int32 → Int32 → Int32 → Int32 → Int32 → Int32 → MS → Prop) (T102 : Int32 → Int32 → Int32 → Int32 → Int32 → Int32 → Int32 → MS → Prop) (x2 : Int32) (x3 : Int32) (x4 : Int32) (x5 : Int32) (x6 : Int32) (x7 : Int32) (x8 : Int32) (S : MS) : Prop :=
  (((gF S 12) ≤ x8 → T102 x2 x3 x4 x5 x6 x7 (1 : Int32) S) ∧ (¬ (gF S 12) ≤ x8 → (vp_in (((6 : Int32) * (gF S 11)) + x8) 108 ∧ (fun (S1 : MS) => T68 x2 x3 x4 x5 x6 x7 (x8 + (1 : Int32)) S1) (sL S ((((6 : Int32) * (gF S 11)) + x8)).toNatClampNeg (0 : Int64)))))
set_option maxHeartbeats 4000000 in
set_option maxRecDepth 100000 in
theorem M_goAround_a68 {p : Program} {l : Launch} {e : Env} {s : State} {m : MethodId} {args : Array Value} {below : List Frame} {meth : Method} {c : Code} {D : va_G} {dA : Nat → ClassId} {o : Nat → Nat} {A : Nat → Prop} {post : Int32 → MS → Prop} {T29 : Int32 → Int32 → Int32 → Int32 → MS → Prop} {T68 : Int32 → Int32 → Int32 → Int32 → Int32 → Int32 → Int32 → MS → Prop} {T102 : Int32 → Int32 → Int32 → Int32 → Int32 → Int32 → Int32 → MS → Prop} (C : mC p m c cX5_goAround 14 s args meth (Option.some Jvm.ClassFile.FieldType.boolean) A) (hT29 : ∀ (x2 : Int32) (x3 : Int32) (x4 : Int32) (x5 : Int32) (S : MS), T29 x2 x3 x4 x5 S → ∀ (H : Heap) (locs : List Loc) (ls : Array Slot), lv_has ls 14 [(0, .ref (o 0)), (2, .int x2), (3, .int x3), (4, .int x4), (5, .int x5)] → mw D dA o A s S H locs → W p l e rM_goAround s m args below meth c H locs 0 0 (mQi below args s D dA o A post) (F0 m 29 ls [])) (hT68 : ∀ (x2 : Int32) (x3 : Int32) (x4 : Int32) (x5 : Int32) (x6 : Int32) (x7 : Int32) (x8 : Int32) (S : MS), T68 x2 x3 x4 x5 x6 x7 x8 S → ∀ (H : Heap) (locs : List Loc) (ls : Array Slot), lv_has ls 14 [(0, .ref (o 0)), (2, .int x2), (3, .int x3), (4, .int x4), (5, .int x5), (6, .int x6), (7, .int x7), (8, .int x8)] → mw D dA o A s S H locs → W p l e rM_goAround s m args below meth c H locs 0 0 (mQi below args s D dA o A post) (F0 m 68 ls [])) (hT102 : ∀ (x2 : Int32) (x3 : Int32) (x4 : Int32) (x5 : Int32) (x6 : Int32) (x7 : Int32) (x8 : Int32) (S : MS), T102 x2 x3 x4 x5 x6 x7 x8 S → ∀ (H : Heap) (locs : List Loc) (ls : Array Slot), lv_has ls 14 [(0, .ref (o 0)), (2, .int x2), (3, .int x3), (4, .int x4), (5, .int x5), (6, .int x6), (7, .int x7), (8, .int x8)] → mw D dA o A s S H locs → W p l e rM_goAround s m args below meth c H locs 0 0 (mQi below args s D dA o A post) (F0 m 102 ls [])) {x2 : Int32} {x3 : Int32} {x4 : Int32} {x5 : Int32} {x6 : Int32} {x7 : Int32} {x8 : Int32} {S : MS} (h : M_goAround_w68 post T29 T68 T102 x2 x3 x4 x5 x6 x7 x8 S) {H : Heap} {locs : List Loc} {ls : Array Slot} (hl : lv_has ls 14 [(0, .ref (o 0)), (2, .int x2), (3, .int x3), (4, .int x4), (5, .int x5), (6, .int x6), (7, .int x7), (8, .int x8)]) (w : mw D dA o A s S H locs) : W p l e rM_goAround s m args below meth c H locs 0 0 (mQi below args s D dA o A post) (F0 m 68 ls []) := by
  unfold M_goAround_w68 at h
  obtain ⟨⟨hx, hb, hml, hown, hts⟩, hr, hlk, hA⟩ := id C
  refine lv_iload hx hb dX5_goAround_68 (lv_at hl 7 rfl) ?_
  refine lv_aload_n hx hb dX5_goAround_70 rfl (lv_at hl 0 rfl) ?_
  refine mr_get C w 12 (by decide) q589 rfl rfl dX5_goAround_71 ?_
  obtain ⟨h1, h2⟩ := h
  refine lv_icmp_ge (tgt := 99) hx hb dX5_goAround_74 (by decide) (fun c1 => ?_) (fun c1 => ?_)
  · have h := h1 c1
    refine lv_iconst (v := 1) hx hb dX5_goAround_99 (by decide) ?_
    refine lv_istore (lv' := [(8, .int _), (0, .ref _), (2, .int _), (3, .int _), (4, .int _), (5, .int _), (6, .int _), (7, .int _)]) hx hb dX5_goAround_100 hl (by decide) rfl (fun ls hl => ?_)
    exact hT102 _ _ _ _ _ _ _ _ h _ _ _ (lv_sub hl [1, 2, 3, 4, 5, 6, 7, 0] rfl) w
  · have h := h2 c1
    refine lv_aload_n hx hb dX5_goAround_77 rfl (lv_at hl 0 rfl) ?_
    refine mr_get C w 10 (by decide) q587 rfl rfl dX5_goAround_78 ?_
    refine lv_bipush (v := 6) hx hb dX5_goAround_81 (by decide) ?_
    refine lv_aload_n hx hb dX5_goAround_83 rfl (lv_at hl 0 rfl) ?_
    refine mr_get C w 11 (by decide) q588 rfl rfl dX5_goAround_84 ?_
    refine lv_imul hx hb dX5_goAround_87 ?_
    refine lv_iload hx hb dX5_goAround_88 (lv_at hl 7 rfl) ?_
    refine lv_iadd hx hb dX5_goAround_90 ?_
    refine lv_lconst (v := 0) hx hb dX5_goAround_91 (by decide) ?_
    obtain ⟨hi, h⟩ := h
    refine mr_last C w hi dX5_goAround_92 (fun H locs w => ?_)
    refine lv_iinc (v := _ + (1 : Int32)) (lv' := [(8, .int _), (0, .ref _), (2, .int _), (3, .int _), (4, .int _), (5, .int _), (6, .int _), (7, .int _)]) hx hb dX5_goAround_93 hl (k := 7) rfl rfl (by decide) rfl (fun ls hl => ?_)
    refine lv_goto (tgt := 68) hx hb dX5_goAround_96 (by decide) ?_
    exact hT68 _ _ _ _ _ _ _ _ h _ _ _ (lv_sub hl [1, 2, 3, 4, 5, 6, 7, 0] rfl) w
def M_goAround_w42 (post : Int32 → MS → Prop) (T29 : Int32 → Int32 → Int32 → Int32 → MS → Prop) (T68 : Int32 → Int32 → Int32 → Int32 → Int32 → Int32 → Int32 → MS → Prop) (T102 : Int32 → Int32 → Int32 → Int32 → Int32 → Int32 → Int32 → MS → Prop) (x2 : Int32) (x3 : Int32) (x4 : Int32) (x5 : Int32) (S : MS) : Prop :=
  T29 x2 x3 x4 (x5 + (1 : Int32)) S
set_option maxHeartbeats 4000000 in
set_option maxRecDepth 100000 in
theorem M_goAround_a42 {p : Program} {l : Launch} {e : Env} {s : State} {m : MethodId} {args : Array Value} {below : List Frame} {meth : Method} {c : Code} {D : va_G} {dA : Nat → ClassId} {o : Nat → Nat} {A : Nat → Prop} {post : Int32 → MS → Prop} {T29 : Int32 → Int32 → Int32 → Int32 → MS → Prop} {T68 : Int32 → Int32 → Int32 → Int32 → Int32 → Int32 → Int32 → MS → Prop} {T102 : Int32 → Int32 → Int32 → Int32 → Int32 → Int32 → Int32 → MS → Prop} (C : mC p m c cX5_goAround 14 s args meth (Option.some Jvm.ClassFile.FieldType.boolean) A) (hT29 : ∀ (x2 : Int32) (x3 : Int32) (x4 : Int32) (x5 : Int32) (S : MS), T29 x2 x3 x4 x5 S → ∀ (H : Heap) (locs : List Loc) (ls : Array Slot), lv_has ls 14 [(0, .ref (o 0)), (2, .int x2), (3, .int x3), (4, .int x4), (5, .int x5)] → mw D dA o A s S H locs → W p l e rM_goAround s m args below meth c H locs 0 0 (mQi below args s D dA o A post) (F0 m 29 ls [])) (hT68 : ∀ (x2 : Int32) (x3 : Int32) (x4 : Int32) (x5 : Int32) (x6 : Int32) (x7 : Int32) (x8 : Int32) (S : MS), T68 x2 x3 x4 x5 x6 x7 x8 S → ∀ (H : Heap) (locs : List Loc) (ls : Array Slot), lv_has ls 14 [(0, .ref (o 0)), (2, .int x2), (3, .int x3), (4, .int x4), (5, .int x5), (6, .int x6), (7, .int x7), (8, .int x8)] → mw D dA o A s S H locs → W p l e rM_goAround s m args below meth c H locs 0 0 (mQi below args s D dA o A post) (F0 m 68 ls [])) (hT102 : ∀ (x2 : Int32) (x3 : Int32) (x4 : Int32) (x5 : Int32) (x6 : Int32) (x7 : Int32) (x8 : Int32) (S : MS), T102 x2 x3 x4 x5 x6 x7 x8 S → ∀ (H : Heap) (locs : List Loc) (ls : Array Slot), lv_has ls 14 [(0, .ref (o 0)), (2, .int x2), (3, .int x3), (4, .int x4), (5, .int x5), (6, .int x6), (7, .int x7), (8, .int x8)] → mw D dA o A s S H locs → W p l e rM_goAround s m args below meth c H locs 0 0 (mQi below args s D dA o A post) (F0 m 102 ls [])) {x2 : Int32} {x3 : Int32} {x4 : Int32} {x5 : Int32} {S : MS} (h : M_goAround_w42 post T29 T68 T102 x2 x3 x4 x5 S) {H : Heap} {locs : List Loc} {ls : Array Slot} (hl : lv_has ls 14 [(0, .ref (o 0)), (2, .int x2), (3, .int x3), (4, .int x4), (5, .int x5)]) (w : mw D dA o A s S H locs) : W p l e rM_goAround s m args below meth c H locs 0 0 (mQi below args s D dA o A post) (F0 m 42 ls []) := by
  unfold M_goAround_w42 at h
  obtain ⟨⟨hx, hb, hml, hown, hts⟩, hr, hlk, hA⟩ := id C
  refine lv_iinc (v := _ + (1 : Int32)) (lv' := [(5, .int _), (0, .ref _), (2, .int _), (3, .int _), (4, .int _)]) hx hb dX5_goAround_42 hl (k := 4) rfl rfl (by decide) rfl (fun ls hl => ?_)
  refine lv_goto (tgt := 29) hx hb dX5_goAround_45 (by decide) ?_
  exact hT29 _ _ _ _ _ h _ _ _ (lv_sub hl [1, 2, 3, 4, 0] rfl) w
def M_goAround_w29 (post : Int32 → MS → Prop) (T29 : Int32 → Int32 → Int32 → Int32 → MS → Prop) (T68 : Int32 → Int32 → Int32 → Int32 → Int32 → Int32 → Int32 → MS → Prop) (T102 : Int32 → Int32 → Int32 → Int32 → Int32 → Int32 → Int32 → MS → Prop) (x2 : Int32) (x3 : Int32) (x4 : Int32) (x5 : Int32) (S : MS) : Prop :=
  ((x5 = x3 → M_goAround_w42 post T29 T68 T102 x2 x3 x4 x5 S) ∧ (¬ x5 = x3 → ((¬ x5 = x4 → T68 x2 x3 x4 x5 ((((16 : Int32) * x2) + ((4 : Int32) * x3)) + x4) x5 (0 : Int32) S) ∧ (x5 = x4 → M_goAround_w42 post T29 T68 T102 x2 x3 x4 x5 S))))
set_option maxHeartbeats 4000000 in
set_option maxRecDepth 100000 in
theorem M_goAround_a29 {p : Program} {l : Launch} {e : Env} {s : State} {m : MethodId} {args : Array Value} {below : List Frame} {meth : Method} {c : Code} {D : va_G} {dA : Nat → ClassId} {o : Nat → Nat} {A : Nat → Prop} {post : Int32 → MS → Prop} {T29 : Int32 → Int32 → Int32 → Int32 → MS → Prop} {T68 : Int32 → Int32 → Int32 → Int32 → Int32 → Int32 → Int32 → MS → Prop} {T102 : Int32 → Int32 → Int32 → Int32 → Int32 → Int32 → Int32 → MS → Prop} (C : mC p m c cX5_goAround 14 s args meth (Option.some Jvm.ClassFile.FieldType.boolean) A) (hT29 : ∀ (x2 : Int32) (x3 : Int32) (x4 : Int32) (x5 : Int32) (S : MS), T29 x2 x3 x4 x5 S → ∀ (H : Heap) (locs : List Loc) (ls : Array Slot), lv_has ls 14 [(0, .ref (o 0)), (2, .int x2), (3, .int x3), (4, .int x4), (5, .int x5)] → mw D dA o A s S H locs → W p l e rM_goAround s m args below meth c H locs 0 0 (mQi below args s D dA o A post) (F0 m 29 ls [])) (hT68 : ∀ (x2 : Int32) (x3 : Int32) (x4 : Int32) (x5 : Int32) (x6 : Int32) (x7 : Int32) (x8 : Int32) (S : MS), T68 x2 x3 x4 x5 x6 x7 x8 S → ∀ (H : Heap) (locs : List Loc) (ls : Array Slot), lv_has ls 14 [(0, .ref (o 0)), (2, .int x2), (3, .int x3), (4, .int x4), (5, .int x5), (6, .int x6), (7, .int x7), (8, .int x8)] → mw D dA o A s S H locs → W p l e rM_goAround s m args below meth c H locs 0 0 (mQi below args s D dA o A post) (F0 m 68 ls [])) (hT102 : ∀ (x2 : Int32) (x3 : Int32) (x4 : Int32) (x5 : Int32) (x6 : Int32) (x7 : Int32) (x8 : Int32) (S : MS), T102 x2 x3 x4 x5 x6 x7 x8 S → ∀ (H : Heap) (locs : List Loc) (ls : Array Slot), lv_has ls 14 [(0, .ref (o 0)), (2, .int x2), (3, .int x3), (4, .int x4), (5, .int x5), (6, .int x6), (7, .int x7), (8, .int x8)] → mw D dA o A s S H locs → W p l e rM_goAround s m args below meth c H locs 0 0 (mQi below args s D dA o A post) (F0 m 102 ls [])) {x2 : Int32} {x3 : Int32} {x4 : Int32} {x5 : Int32} {S : MS} (h : M_goAround_w29 post T29 T68 T102 x2 x3 x4 x5 S) {H : Heap} {locs : List Loc} {ls : Array Slot} (hl : lv_has ls 14 [(0, .ref (o 0)), (2, .int x2), (3, .int x3), (4, .int x4), (5, .int x5)]) (w : mw D dA o A s S H locs) : W p l e rM_goAround s m args below meth c H locs 0 0 (mQi below args s D dA o A post) (F0 m 29 ls []) := by
  unfold M_goAround_w29 at h
  obtain ⟨⟨hx, hb, hml, hown, hts⟩, hr, hlk, hA⟩ := id C
  refine lv_iload hx hb dX5_goAround_29 (lv_at hl 4 rfl) ?_
  refine lv_iload_n hx hb dX5_goAround_31 rfl (lv_at hl 2 rfl) ?_
  obtain ⟨h1, h2⟩ := h
  refine lv_icmp_eq (tgt := 42) hx hb dX5_goAround_32 (by decide) (fun c1 => ?_) (fun c1 => ?_)
  · have h := h1 c1
    exact M_goAround_a42 C hT29 hT68 hT102 h (lv_sub hl [0, 1, 2, 3, 4] rfl) w
  · have h := h2 c1
    refine lv_iload hx hb dX5_goAround_35 (lv_at hl 4 rfl) ?_
    refine lv_iload hx hb dX5_goAround_37 (lv_at hl 3 rfl) ?_
    obtain ⟨h1, h2⟩ := h
    refine lv_icmp_ne (tgt := 48) hx hb dX5_goAround_39 (by decide) (fun c1 => ?_) (fun c1 => ?_)
    · have h := h1 c1
      refine lv_bipush (v := 16) hx hb dX5_goAround_48 (by decide) ?_
      refine lv_iload_n hx hb dX5_goAround_50 rfl (lv_at hl 1 rfl) ?_
      refine lv_imul hx hb dX5_goAround_51 ?_
      refine lv_iconst (v := 4) hx hb dX5_goAround_52 (by decide) ?_
      refine lv_iload_n hx hb dX5_goAround_53 rfl (lv_at hl 2 rfl) ?_
      refine lv_imul hx hb dX5_goAround_54 ?_
      refine lv_iadd hx hb dX5_goAround_55 ?_
      refine lv_iload hx hb dX5_goAround_56 (lv_at hl 3 rfl) ?_
      refine lv_iadd hx hb dX5_goAround_58 ?_
      refine lv_istore (lv' := [(6, .int _), (0, .ref _), (2, .int _), (3, .int _), (4, .int _), (5, .int _)]) hx hb dX5_goAround_59 hl (by decide) rfl (fun ls hl => ?_)
      refine lv_iload hx hb dX5_goAround_61 (lv_at hl 5 rfl) ?_
      refine lv_istore (lv' := [(7, .int _), (6, .int _), (0, .ref _), (2, .int _), (3, .int _), (4, .int _), (5, .int _)]) hx hb dX5_goAround_63 hl (by decide) rfl (fun ls hl => ?_)
      refine lv_iconst (v := 0) hx hb dX5_goAround_65 (by decide) ?_
      refine lv_istore (lv' := [(8, .int _), (7, .int _), (6, .int _), (0, .ref _), (2, .int _), (3, .int _), (4, .int _), (5, .int _)]) hx hb dX5_goAround_66 hl (by decide) rfl (fun ls hl => ?_)
      exact hT68 _ _ _ _ _ _ _ _ h _ _ _ (lv_sub hl [3, 4, 5, 6, 7, 2, 1, 0] rfl) w
    · have h := h2 c1
      exact M_goAround_a42 C hT29 hT68 hT102 h (lv_sub hl [0, 1, 2, 3, 4] rfl) w
def M_goAround_w0 (post : Int32 → MS → Prop) (T29 : Int32 → Int32 → Int32 → Int32 → MS → Prop) (T68 : Int32 → Int32 → Int32 → Int32 → Int32 → Int32 → Int32 → MS → Prop) (T102 : Int32 → Int32 → Int32 → Int32 → Int32 → Int32 → Int32 → MS → Prop) (x1 : Int32) (S : MS) : Prop :=
  (vp_in (x1 - x1 / (6 : Int32) * (6 : Int32)) 6 ∧ (vp_in (x1 - x1 / (6 : Int32) * (6 : Int32)) 6 ∧ T29 (x1 / (6 : Int32)) (gI S 4 ((x1 - x1 / (6 : Int32) * (6 : Int32))).toNatClampNeg) (gI S 5 ((x1 - x1 / (6 : Int32) * (6 : Int32))).toNatClampNeg) (0 : Int32) S))
set_option maxHeartbeats 4000000 in
set_option maxRecDepth 100000 in
theorem M_goAround_a0 {p : Program} {l : Launch} {e : Env} {s : State} {m : MethodId} {args : Array Value} {below : List Frame} {meth : Method} {c : Code} {D : va_G} {dA : Nat → ClassId} {o : Nat → Nat} {A : Nat → Prop} {post : Int32 → MS → Prop} {T29 : Int32 → Int32 → Int32 → Int32 → MS → Prop} {T68 : Int32 → Int32 → Int32 → Int32 → Int32 → Int32 → Int32 → MS → Prop} {T102 : Int32 → Int32 → Int32 → Int32 → Int32 → Int32 → Int32 → MS → Prop} (C : mC p m c cX5_goAround 14 s args meth (Option.some Jvm.ClassFile.FieldType.boolean) A) (hT29 : ∀ (x2 : Int32) (x3 : Int32) (x4 : Int32) (x5 : Int32) (S : MS), T29 x2 x3 x4 x5 S → ∀ (H : Heap) (locs : List Loc) (ls : Array Slot), lv_has ls 14 [(0, .ref (o 0)), (2, .int x2), (3, .int x3), (4, .int x4), (5, .int x5)] → mw D dA o A s S H locs → W p l e rM_goAround s m args below meth c H locs 0 0 (mQi below args s D dA o A post) (F0 m 29 ls [])) (hT68 : ∀ (x2 : Int32) (x3 : Int32) (x4 : Int32) (x5 : Int32) (x6 : Int32) (x7 : Int32) (x8 : Int32) (S : MS), T68 x2 x3 x4 x5 x6 x7 x8 S → ∀ (H : Heap) (locs : List Loc) (ls : Array Slot), lv_has ls 14 [(0, .ref (o 0)), (2, .int x2), (3, .int x3), (4, .int x4), (5, .int x5), (6, .int x6), (7, .int x7), (8, .int x8)] → mw D dA o A s S H locs → W p l e rM_goAround s m args below meth c H locs 0 0 (mQi below args s D dA o A post) (F0 m 68 ls [])) (hT102 : ∀ (x2 : Int32) (x3 : Int32) (x4 : Int32) (x5 : Int32) (x6 : Int32) (x7 : Int32) (x8 : Int32) (S : MS), T102 x2 x3 x4 x5 x6 x7 x8 S → ∀ (H : Heap) (locs : List Loc) (ls : Array Slot), lv_has ls 14 [(0, .ref (o 0)), (2, .int x2), (3, .int x3), (4, .int x4), (5, .int x5), (6, .int x6), (7, .int x7), (8, .int x8)] → mw D dA o A s S H locs → W p l e rM_goAround s m args below meth c H locs 0 0 (mQi below args s D dA o A post) (F0 m 102 ls [])) {x1 : Int32} {S : MS} (h : M_goAround_w0 post T29 T68 T102 x1 S) {H : Heap} {locs : List Loc} {ls : Array Slot} (hl : lv_has ls 14 [(0, .ref (o 0)), (1, .int x1)]) (w : mw D dA o A s S H locs) : W p l e rM_goAround s m args below meth c H locs 0 0 (mQi below args s D dA o A post) (F0 m 0 ls []) := by
  unfold M_goAround_w0 at h
  obtain ⟨⟨hx, hb, hml, hown, hts⟩, hr, hlk, hA⟩ := id C
  refine lv_iload_n hx hb dX5_goAround_0 rfl (lv_at hl 1 rfl) ?_
  refine lv_bipush (v := 6) hx hb dX5_goAround_1 (by decide) ?_
  refine lv_idiv hx hb dX5_goAround_3 (by decide) ?_
  refine lv_istore_n (lv' := [(2, .int _), (0, .ref _), (1, .int _)]) hx hb dX5_goAround_4 rfl hl (by decide) rfl (fun ls hl => ?_)
  refine lv_aload_n hx hb dX5_goAround_5 rfl (lv_at hl 1 rfl) ?_
  refine mr_get C w 4 (by decide) q581 rfl rfl dX5_goAround_6 ?_
  refine lv_iload_n hx hb dX5_goAround_9 rfl (lv_at hl 2 rfl) ?_
  refine lv_bipush (v := 6) hx hb dX5_goAround_10 (by decide) ?_
  refine lv_irem hx hb dX5_goAround_12 (by decide) ?_
  obtain ⟨hi, h⟩ := h
  refine mr_iald C w 4 3 rfl rfl hi dX5_goAround_13 ?_
  refine lv_istore_n (lv' := [(3, .int _), (2, .int _), (0, .ref _), (1, .int _)]) hx hb dX5_goAround_14 rfl hl (by decide) rfl (fun ls hl => ?_)
  refine lv_aload_n hx hb dX5_goAround_15 rfl (lv_at hl 2 rfl) ?_
  refine mr_get C w 5 (by decide) q582 rfl rfl dX5_goAround_16 ?_
  refine lv_iload_n hx hb dX5_goAround_19 rfl (lv_at hl 3 rfl) ?_
  refine lv_bipush (v := 6) hx hb dX5_goAround_20 (by decide) ?_
  refine lv_irem hx hb dX5_goAround_22 (by decide) ?_
  obtain ⟨hi, h⟩ := h
  refine mr_iald C w 5 4 rfl rfl hi dX5_goAround_23 ?_
  refine lv_istore (lv' := [(4, .int _), (3, .int _), (2, .int _), (0, .ref _), (1, .int _)]) hx hb dX5_goAround_24 hl (by decide) rfl (fun ls hl => ?_)
  refine lv_iconst (v := 0) hx hb dX5_goAround_26 (by decide) ?_
  refine lv_istore (lv' := [(5, .int _), (4, .int _), (3, .int _), (2, .int _), (0, .ref _), (1, .int _)]) hx hb dX5_goAround_27 hl (by decide) rfl (fun ls hl => ?_)
  exact hT29 _ _ _ _ _ h _ _ _ (lv_sub hl [4, 3, 2, 1, 0] rfl) w
def M_goAround_VC (x1 : Int32) (S : MS) (post : Int32 → MS → Prop) : Prop := ∀ (T29 : Int32 → Int32 → Int32 → Int32 → MS → Prop) (T68 : Int32 → Int32 → Int32 → Int32 → Int32 → Int32 → Int32 → MS → Prop) (T102 : Int32 → Int32 → Int32 → Int32 → Int32 → Int32 → Int32 → MS → Prop), (∀ (x2 : Int32) (x3 : Int32) (x4 : Int32) (x5 : Int32) (S : MS), M_goAround_w29 post T29 T68 T102 x2 x3 x4 x5 S → T29 x2 x3 x4 x5 S) → (∀ (x2 : Int32) (x3 : Int32) (x4 : Int32) (x5 : Int32) (x6 : Int32) (x7 : Int32) (x8 : Int32) (S : MS), M_goAround_w68 post T29 T68 T102 x2 x3 x4 x5 x6 x7 x8 S → T68 x2 x3 x4 x5 x6 x7 x8 S) → (∀ (x2 : Int32) (x3 : Int32) (x4 : Int32) (x5 : Int32) (x6 : Int32) (x7 : Int32) (x8 : Int32) (S : MS), M_goAround_w102 post T29 T68 T102 x2 x3 x4 x5 x6 x7 x8 S → T102 x2 x3 x4 x5 x6 x7 x8 S) → M_goAround_w0 post T29 T68 T102 x1 S
theorem M_goAround_ok {x1 : Int32} {S : MS} {post : Int32 → MS → Prop} (h : M_goAround_VC x1 S post) : M_goAround x1 S post := by
  intro l D dA o sz
  refine mr_start (fun A => va_Qi post (mB D dA o A) A) rfl (Nat.le_of_ble_eq_true rfl) (by decide) ?_
  intro p e s m args below meth c ls A C w hl
  have hl : lv_has ls 14 [(0, .ref (o 0)), (1, .int x1)] := hl
  have h := h (fun (x2 : Int32) (x3 : Int32) (x4 : Int32) (x5 : Int32) S => ∀ (H : Heap) (locs : List Loc) (ls : Array Slot), lv_has ls 14 [(0, .ref (o 0)), (2, .int x2), (3, .int x3), (4, .int x4), (5, .int x5)] → mw D dA o A s S H locs → W p l e rM_goAround s m args below meth c H locs 0 0 (mQi below args s D dA o A post) (F0 m 29 ls [])) (fun (x2 : Int32) (x3 : Int32) (x4 : Int32) (x5 : Int32) (x6 : Int32) (x7 : Int32) (x8 : Int32) S => ∀ (H : Heap) (locs : List Loc) (ls : Array Slot), lv_has ls 14 [(0, .ref (o 0)), (2, .int x2), (3, .int x3), (4, .int x4), (5, .int x5), (6, .int x6), (7, .int x7), (8, .int x8)] → mw D dA o A s S H locs → W p l e rM_goAround s m args below meth c H locs 0 0 (mQi below args s D dA o A post) (F0 m 68 ls [])) (fun (x2 : Int32) (x3 : Int32) (x4 : Int32) (x5 : Int32) (x6 : Int32) (x7 : Int32) (x8 : Int32) S => ∀ (H : Heap) (locs : List Loc) (ls : Array Slot), lv_has ls 14 [(0, .ref (o 0)), (2, .int x2), (3, .int x3), (4, .int x4), (5, .int x5), (6, .int x6), (7, .int x7), (8, .int x8)] → mw D dA o A s S H locs → W p l e rM_goAround s m args below meth c H locs 0 0 (mQi below args s D dA o A post) (F0 m 102 ls [])) (fun _ _ _ _ S h H locs ls hl w => M_goAround_a29 C (fun _ _ _ _ _ h => h) (fun _ _ _ _ _ _ _ _ h => h) (fun _ _ _ _ _ _ _ _ h => h) h hl w) (fun _ _ _ _ _ _ _ S h H locs ls hl w => M_goAround_a68 C (fun _ _ _ _ _ h => h) (fun _ _ _ _ _ _ _ _ h => h) (fun _ _ _ _ _ _ _ _ h => h) h hl w) (fun _ _ _ _ _ _ _ S h H locs ls hl w => M_goAround_a102 C (fun _ _ _ _ _ h => h) (fun _ _ _ _ _ _ _ _ h => h) (fun _ _ _ _ _ _ _ _ h => h) h hl w)
  exact M_goAround_a0 C (fun _ _ _ _ _ h => h) (fun _ _ _ _ _ _ _ _ h => h) (fun _ _ _ _ _ _ _ _ h => h) h (lv_sub hl [0, 1] rfl) w
