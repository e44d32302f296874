/-! ThirdSheets.isIn(III)Z -/
def C_isIn_w15 (post : Int32 → CS → Prop) (v0 : Int32) (S : CS) : Prop :=
  (zok v0 ∧ post v0 S)
set_option maxHeartbeats 4000000 in
set_option maxRecDepth 100000 in
theorem C_isIn_a15 {p : Program} {l : Launch} {e : Env} {s : State} {m : MethodId} {args : Array Value} {below : List Frame} {meth : Method} {c : Code} {D : va_G} {dA : Nat → ClassId} {o : Nat → Nat} {A : Nat → Prop} {post : Int32 → CS → Prop} (C : cC RX0 p m c cX0_isIn 3 s args meth (Option.some Jvm.ClassFile.FieldType.boolean) A) {v0 : Int32} {S : CS} (h : C_isIn_w15 post v0 S) {H : Heap} {locs : List Loc} {ls : Array Slot} (hl : lv_has ls 3 []) (w : cw D dA o A s S H locs) : W p l e (rC_isIn) s m args below meth c H locs 0 0 (cQi below args s D dA o A (rC_isIn) post) (F0 m 15 ls [.int v0]) := by
  unfold C_isIn_w15 at h
  obtain ⟨⟨hx, hb, hml, hown, hts⟩, hr, hlk, hA⟩ := id C
  exact cr_zret C w (zok_n h.1) h.2 (Nat.le_of_ble_eq_true rfl) (Nat.le_of_ble_eq_true rfl) dX0_isIn_15
def C_isIn_w14 (post : Int32 → CS → Prop) (S : CS) : Prop :=
  C_isIn_w15 post (0 : Int32) S
set_option maxHeartbeats 4000000 in
set_option maxRecDepth 100000 in
theorem C_isIn_a14 {p : Program} {l : Launch} {e : Env} {s : State} {m : MethodId} {args : Array Value} {below : List Frame} {meth : Method} {c : Code} {D : va_G} {dA : Nat → ClassId} {o : Nat → Nat} {A : Nat → Prop} {post : Int32 → CS → Prop} (C : cC RX0 p m c cX0_isIn 3 s args meth (Option.some Jvm.ClassFile.FieldType.boolean) A) {S : CS} (h : C_isIn_w14 post S) {H : Heap} {locs : List Loc} {ls : Array Slot} (hl : lv_has ls 3 []) (w : cw D dA o A s S H locs) : W p l e (rC_isIn) s m args below meth c H locs 0 0 (cQi below args s D dA o A (rC_isIn) post) (F0 m 14 ls []) := by
  unfold C_isIn_w14 at h
  obtain ⟨⟨hx, hb, hml, hown, hts⟩, hr, hlk, hA⟩ := id C
  refine lv_iconst (v := 0) hx hb dX0_isIn_14 (by decide) ?_
  exact C_isIn_a15 C h (lv_sub hl [] rfl) w
def C_isIn_w0 (post : Int32 → CS → Prop) (x0 : Int32) (x1 : Int32) (x2 : Int32) (S : CS) : Prop :=
  ((x0 < x1 → C_isIn_w14 post S) ∧ (¬ x0 < x1 → ((x2 < x0 → C_isIn_w14 post S) ∧ (¬ x2 < x0 → C_isIn_w15 post (1 : Int32) S))))
set_option maxHeartbeats 4000000 in
set_option maxRecDepth 100000 in
theorem C_isIn_a0 {p : Program} {l : Launch} {e : Env} {s : State} {m : MethodId} {args : Array Value} {below : List Frame} {meth : Method} {c : Code} {D : va_G} {dA : Nat → ClassId} {o : Nat → Nat} {A : Nat → Prop} {post : Int32 → CS → Prop} (C : cC RX0 p m c cX0_isIn 3 s args meth (Option.some Jvm.ClassFile.FieldType.boolean) A) {x0 : Int32} {x1 : Int32} {x2 : Int32} {S : CS} (h : C_isIn_w0 post x0 x1 x2 S) {H : Heap} {locs : List Loc} {ls : Array Slot} (hl : lv_has ls 3 [(0, .int x0), (1, .int x1), (2, .int x2)]) (w : cw D dA o A s S H locs) : W p l e (rC_isIn) s m args below meth c H locs 0 0 (cQi below args s D dA o A (rC_isIn) post) (F0 m 0 ls []) := by
  unfold C_isIn_w0 at h
  obtain ⟨⟨hx, hb, hml, hown, hts⟩, hr, hlk, hA⟩ := id C
  refine lv_iload_n hx hb dX0_isIn_0 rfl (lv_at hl 0 rfl) ?_
  refine lv_iload_n hx hb dX0_isIn_1 rfl (lv_at hl 1 rfl) ?_
  obtain ⟨h1, h2⟩ := h
  refine lv_icmp_lt (tgt := 14) hx hb dX0_isIn_2 (by decide) (fun c1 => ?_) (fun c1 => ?_)
  · have h := h1 c1
    exact C_isIn_a14 C h (lv_sub hl [] rfl) w
  · have h := h2 c1
    refine lv_iload_n hx hb dX0_isIn_5 rfl (lv_at hl 0 rfl) ?_
    refine lv_iload_n hx hb dX0_isIn_6 rfl (lv_at hl 2 rfl) ?_
    obtain ⟨h1, h2⟩ := h
    refine lv_icmp_gt (tgt := 14) hx hb dX0_isIn_7 (by decide) (fun c1 => ?_) (fun c1 => ?_)
    · have h := h1 c1
      exact C_isIn_a14 C h (lv_sub hl [] rfl) w
    · have h := h2 c1
      refine lv_iconst (v := 1) hx hb dX0_isIn_10 (by decide) ?_
      refine lv_goto (tgt := 15) hx hb dX0_isIn_11 (by decide) ?_
      exact C_isIn_a15 C h (lv_sub hl [] rfl) w
def C_isIn_VC (x0 : Int32) (x1 : Int32) (x2 : Int32) (S : CS) (post : Int32 → CS → Prop) : Prop := C_isIn_w0 post x0 x1 x2 S
theorem C_isIn_ok {x0 : Int32} {x1 : Int32} {x2 : Int32} {S : CS} {post : Int32 → CS → Prop} (h : C_isIn_VC x0 x1 x2 S post) : C_isIn x0 x1 x2 S post := by
  intro l D dA o sz
  refine cr_start (fun A => va_Qi post (cB D dA o A) A) rfl (Nat.le_of_ble_eq_true rfl) (by decide) ?_
  intro p e s m args below meth c ls A C w hl
  have hl : lv_has ls 3 [(0, .int x0), (1, .int x1), (2, .int x2)] := hl
  exact C_isIn_a0 C h (lv_sub hl [0, 1, 2] rfl) w

/-! ThirdSheets.isPiece(I)Z -/
def C_isPiece_w0 (post : Int32 → CS → Prop) (x1 : Int32) (S : CS) : Prop :=
  C_isIn x1 (0 : Int32) ((kF S 1) - (1 : Int32)) S (fun (r1 : Int32) (S1 : CS) => (zok r1 ∧ post r1 S1))
set_option maxHeartbeats 4000000 in
set_option maxRecDepth 100000 in
theorem C_isPiece_a0 {p : Program} {l : Launch} {e : Env} {s : State} {m : MethodId} {args : Array Value} {below : List Frame} {meth : Method} {c : Code} {D : va_G} {dA : Nat → ClassId} {o : Nat → Nat} {A : Nat → Prop} {post : Int32 → CS → Prop} (C : cC RX0 p m c cX0_isPiece 2 s args meth (Option.some Jvm.ClassFile.FieldType.boolean) A) {x1 : Int32} {S : CS} (h : C_isPiece_w0 post x1 S) {H : Heap} {locs : List Loc} {ls : Array Slot} (hl : lv_has ls 2 [(0, .ref (o 0)), (1, .int x1)]) (w : cw D dA o A s S H locs) : W p l e (rC_isPiece) s m args below meth c H locs 0 0 (cQi below args s D dA o A (rC_isPiece) post) (F0 m 0 ls []) := by
  unfold C_isPiece_w0 at h
  obtain ⟨⟨hx, hb, hml, hown, hts⟩, hr, hlk, hA⟩ := id C
  refine lv_iload_n hx hb dX0_isPiece_0 rfl (lv_at hl 1 rfl) ?_
  refine lv_iconst (v := 0) hx hb dX0_isPiece_1 (by decide) ?_
  refine lv_aload_n hx hb dX0_isPiece_2 rfl (lv_at hl 0 rfl) ?_
  refine cr_get C w 0 rfl rfl in_X0 1 (by decide) q164 rfl rfl dX0_isPiece_3 ?_
  refine lv_iconst (v := 1) hx hb dX0_isPiece_6 (by decide) ?_
  refine lv_isub hx hb dX0_isPiece_7 ?_
  refine cr_callSI (rest := []) C w h (va_cwS 3 hts (lw_S q244 q245 q82 q246) rfl rfl rfl C_isIn_d ⟨Nat.le_of_ble_eq_true rfl, Nat.le_of_ble_eq_true rfl⟩) rfl hl.1 rfl (Nat.le_of_ble_eq_true rfl) ⟨Nat.le_of_ble_eq_true rfl, Nat.le_of_ble_eq_true rfl⟩ dX0_isPiece_8 (fun r1 S1 H locs h w => ?_)
  exact cr_zret C w (zok_n h.1) h.2 (Nat.le_of_ble_eq_true rfl) (Nat.le_of_ble_eq_true rfl) dX0_isPiece_11
def C_isPiece_VC (x1 : Int32) (S : CS) (post : Int32 → CS → Prop) : Prop := C_isPiece_w0 post x1 S
theorem C_isPiece_ok {x1 : Int32} {S : CS} {post : Int32 → CS → Prop} (h : C_isPiece_VC x1 S post) : C_isPiece x1 S post := by
  intro l D dA o sz
  refine cr_start (fun A => va_Qi post (cB D dA o A) A) rfl (Nat.le_of_ble_eq_true rfl) (by decide) ?_
  intro p e s m args below meth c ls A C w hl
  have hl : lv_has ls 2 [(0, .ref (o 0)), (1, .int x1)] := hl
  exact C_isPiece_a0 C h (lv_sub hl [0, 1] rfl) w

/-! ThirdSheets.isCorner(I)Z -/
def C_isCorner_w0 (post : Int32 → CS → Prop) (x0 : Int32) (S : CS) : Prop :=
  C_isIn x0 (0 : Int32) (3 : Int32) S (fun (r1 : Int32) (S1 : CS) => (zok r1 ∧ post r1 S1))
set_option maxHeartbeats 4000000 in
set_option maxRecDepth 100000 in
theorem C_isCorner_a0 {p : Program} {l : Launch} {e : Env} {s : State} {m : MethodId} {args : Array Value} {below : List Frame} {meth : Method} {c : Code} {D : va_G} {dA : Nat → ClassId} {o : Nat → Nat} {A : Nat → Prop} {post : Int32 → CS → Prop} (C : cC RX0 p m c cX0_isCorner 1 s args meth (Option.some Jvm.ClassFile.FieldType.boolean) A) {x0 : Int32} {S : CS} (h : C_isCorner_w0 post x0 S) {H : Heap} {locs : List Loc} {ls : Array Slot} (hl : lv_has ls 1 [(0, .int x0)]) (w : cw D dA o A s S H locs) : W p l e (rC_isCorner) s m args below meth c H locs 0 0 (cQi below args s D dA o A (rC_isCorner) post) (F0 m 0 ls []) := by
  unfold C_isCorner_w0 at h
  obtain ⟨⟨hx, hb, hml, hown, hts⟩, hr, hlk, hA⟩ := id C
  refine lv_iload_n hx hb dX0_isCorner_0 rfl (lv_at hl 0 rfl) ?_
  refine lv_iconst (v := 0) hx hb dX0_isCorner_1 (by decide) ?_
  refine lv_iconst (v := 3) hx hb dX0_isCorner_2 (by decide) ?_
  refine cr_callSI (rest := []) C w h (va_cwS 3 hts (lw_S q244 q245 q82 q246) rfl rfl rfl C_isIn_d ⟨Nat.le_of_ble_eq_true rfl, Nat.le_of_ble_eq_true rfl⟩) rfl hl.1 rfl (Nat.le_of_ble_eq_true rfl) ⟨Nat.le_of_ble_eq_true rfl, Nat.le_of_ble_eq_true rfl⟩ dX0_isCorner_3 (fun r1 S1 H locs h w => ?_)
  exact cr_zret C w (zok_n h.1) h.2 (Nat.le_of_ble_eq_true rfl) (Nat.le_of_ble_eq_true rfl) dX0_isCorner_6
def C_isCorner_VC (x0 : Int32) (S : CS) (post : Int32 → CS → Prop) : Prop := C_isCorner_w0 post x0 S
theorem C_isCorner_ok {x0 : Int32} {S : CS} {post : Int32 → CS → Prop} (h : C_isCorner_VC x0 S post) : C_isCorner x0 S post := by
  intro l D dA o sz
  refine cr_start (fun A => va_Qi post (cB D dA o A) A) rfl (Nat.le_of_ble_eq_true rfl) (by decide) ?_
  intro p e s m args below meth c ls A C w hl
  have hl : lv_has ls 1 [(0, .int x0)] := hl
  exact C_isCorner_a0 C h (lv_sub hl [0] rfl) w

/-! ThirdSheets.edgeOf(II)I -/
def C_edgeOf_w30 (post : Int32 → CS → Prop) (T8 : Int32 → Int32 → Int32 → Int32 → CS → Prop) (x0 : Int32) (x1 : Int32) (x2 : Int32) (x3 : Int32) (S : CS) : Prop :=
  T8 x0 x1 x2 (x3 + (1 : Int32)) S
set_option maxHeartbeats 4000000 in
set_option maxRecDepth 100000 in
theorem C_edgeOf_a30 {p : Program} {l : Launch} {e : Env} {s : State} {m : MethodId} {args : Array Value} {below : List Frame} {meth : Method} {c : Code} {D : va_G} {dA : Nat → ClassId} {o : Nat → Nat} {A : Nat → Prop} {post : Int32 → CS → Prop} {T8 : Int32 → Int32 → Int32 → Int32 → CS → Prop} (C : cC RX0 p m c cX0_edgeOf 4 s args meth (Option.some Jvm.ClassFile.FieldType.int) A) (hT8 : ∀ (x0 : Int32) (x1 : Int32) (x2 : Int32) (x3 : Int32) (S : CS), T8 x0 x1 x2 x3 S → ∀ (H : Heap) (locs : List Loc) (ls : Array Slot), lv_has ls 4 [(0, .int x0), (1, .int x1), (2, .int x2), (3, .int x3)] → cw D dA o A s S H locs → W p l e (rC_edgeOf) s m args below meth c H locs 0 0 (cQi below args s D dA o A (rC_edgeOf) post) (F0 m 8 ls [])) {x0 : Int32} {x1 : Int32} {x2 : Int32} {x3 : Int32} {S : CS} (h : C_edgeOf_w30 post T8 x0 x1 x2 x3 S) {H : Heap} {locs : List Loc} {ls : Array Slot} (hl : lv_has ls 4 [(0, .int x0), (1, .int x1), (2, .int x2), (3, .int x3)]) (w : cw D dA o A s S H locs) : W p l e (rC_edgeOf) s m args below meth c H locs 0 0 (cQi below args s D dA o A (rC_edgeOf) post) (F0 m 30 ls []) := by
  unfold C_edgeOf_w30 at h
  obtain ⟨⟨hx, hb, hml, hown, hts⟩, hr, hlk, hA⟩ := id C
  refine lv_iinc (v := _ + (1 : Int32)) (lv' := [(3, .int _), (0, .int _), (1, .int _), (2, .int _)]) hx hb dX0_edgeOf_30 hl (k := 3) rfl rfl (by decide) rfl (fun ls hl => ?_)
  refine lv_goto (tgt := 8) hx hb dX0_edgeOf_33 (by decide) ?_
  exact hT8 _ _ _ _ _ h _ _ _ (lv_sub hl [1, 2, 3, 0] rfl) w
def C_edgeOf_w8 (post : Int32 → CS → Prop) (T8 : Int32 → Int32 → Int32 → Int32 → CS → Prop) (x0 : Int32) (x1 : Int32) (x2 : Int32) (x3 : Int32) (S : CS) : Prop :=
  (vp_in x3 6 ∧ ((¬ (lowF (x3).toNatClampNeg) = x2 → C_edgeOf_w30 post T8 x0 x1 x2 x3 S) ∧ ((lowF (x3).toNatClampNeg) = x2 → (vp_in x3 6 ∧ (((highF (x3).toNatClampNeg) = ((x0 + x1) - x2) → post x3 S) ∧ (¬ (highF (x3).toNatClampNeg) = ((x0 + x1) - x2) → C_edgeOf_w30 post T8 x0 x1 x2 x3 S))))))
set_option maxHeartbeats 4000000 in
set_option maxRecDepth 100000 in
theorem C_edgeOf_a8 {p : Program} {l : Launch} {e : Env} {s : State} {m : MethodId} {args : Array Value} {below : List Frame} {meth : Method} {c : Code} {D : va_G} {dA : Nat → ClassId} {o : Nat → Nat} {A : Nat → Prop} {post : Int32 → CS → Prop} {T8 : Int32 → Int32 → Int32 → Int32 → CS → Prop} (C : cC RX0 p m c cX0_edgeOf 4 s args meth (Option.some Jvm.ClassFile.FieldType.int) A) (hT8 : ∀ (x0 : Int32) (x1 : Int32) (x2 : Int32) (x3 : Int32) (S : CS), T8 x0 x1 x2 x3 S → ∀ (H : Heap) (locs : List Loc) (ls : Array Slot), lv_has ls 4 [(0, .int x0), (1, .int x1), (2, .int x2), (3, .int x3)] → cw D dA o A s S H locs → W p l e (rC_edgeOf) s m args below meth c H locs 0 0 (cQi below args s D dA o A (rC_edgeOf) post) (F0 m 8 ls [])) {x0 : Int32} {x1 : Int32} {x2 : Int32} {x3 : Int32} {S : CS} (h : C_edgeOf_w8 post T8 x0 x1 x2 x3 S) {H : Heap} {locs : List Loc} {ls : Array Slot} (hl : lv_has ls 4 [(0, .int x0), (1, .int x1), (2, .int x2), (3, .int x3)]) (w : cw D dA o A s S H locs) : W p l e (rC_edgeOf) s m args below meth c H locs 0 0 (cQi below args s D dA o A (rC_edgeOf) post) (F0 m 8 ls []) := by
  unfold C_edgeOf_w8 at h
  obtain ⟨⟨hx, hb, hml, hown, hts⟩, hr, hlk, hA⟩ := id C
  obtain ⟨tL, tH, hZL, hTL, hZH, hTH⟩ := w.2.2.2.2.2
  refine cr_gets (f := fun j => .int (lowF j)) C w hZL q318 dX0_edgeOf_8 ?_ -- tL
  refine lv_iload_n hx hb dX0_edgeOf_11 rfl (lv_at hl 3 rfl) ?_
  obtain ⟨hi, h⟩ := h
  refine cr_sald C w hTL hi dX0_edgeOf_12 ?_
  refine lv_iload_n hx hb dX0_edgeOf_13 rfl (lv_at hl 2 rfl) ?_
  obtain ⟨h1, h2⟩ := h
  refine lv_icmp_ne (tgt := 30) hx hb dX0_edgeOf_14 (by decide) (fun c1 => ?_) (fun c1 => ?_)
  · have h := h1 c1
    exact C_edgeOf_a30 C hT8 h (lv_sub hl [0, 1, 2, 3] rfl) w
  · have h := h2 c1
    refine cr_gets (f := fun j => .int (highF j)) C w hZH q319 dX0_edgeOf_17 ?_ -- tH
    refine lv_iload_n hx hb dX0_edgeOf_20 rfl (lv_at hl 3 rfl) ?_
    obtain ⟨hi, h⟩ := h
    refine cr_sald C w hTH hi dX0_edgeOf_21 ?_
    refine lv_iload_n hx hb dX0_edgeOf_22 rfl (lv_at hl 0 rfl) ?_
    refine lv_iload_n hx hb dX0_edgeOf_23 rfl (lv_at hl 1 rfl) ?_
    refine lv_iadd hx hb dX0_edgeOf_24 ?_
    refine lv_iload_n hx hb dX0_edgeOf_25 rfl (lv_at hl 2 rfl) ?_
    refine lv_isub hx hb dX0_edgeOf_26 ?_
    obtain ⟨h1, h2⟩ := h
    refine lv_icmp_eq (tgt := 36) hx hb dX0_edgeOf_27 (by decide) (fun c1 => ?_) (fun c1 => ?_)
    · have h := h1 c1
      refine lv_iload_n hx hb dX0_edgeOf_36 rfl (lv_at hl 3 rfl) ?_
      exact cr_iret C w h (Nat.le_of_ble_eq_true rfl) (Nat.le_of_ble_eq_true rfl) dX0_edgeOf_37
    · have h := h2 c1
      exact C_edgeOf_a30 C hT8 h (lv_sub hl [0, 1, 2, 3] rfl) w
def C_edgeOf_w0 (post : Int32 → CS → Prop) (T8 : Int32 → Int32 → Int32 → Int32 → CS → Prop) (x0 : Int32) (x1 : Int32) (S : CS) : Prop :=
  T8 x0 x1 (if x1 < x0 then x1 else x0) (0 : Int32) S
set_option maxHeartbeats 4000000 in
set_option maxRecDepth 100000 in
theorem C_edgeOf_a0 {p : Program} {l : Launch} {e : Env} {s : State} {m : MethodId} {args : Array Value} {below : List Frame} {meth : Method} {c : Code} {D : va_G} {dA : Nat → ClassId} {o : Nat → Nat} {A : Nat → Prop} {post : Int32 → CS → Prop} {T8 : Int32 → Int32 → Int32 → Int32 → CS → Prop} (C : cC RX0 p m c cX0_edgeOf 4 s args meth (Option.some Jvm.ClassFile.FieldType.int) A) (hT8 : ∀ (x0 : Int32) (x1 : Int32) (x2 : Int32) (x3 : Int32) (S : CS), T8 x0 x1 x2 x3 S → ∀ (H : Heap) (locs : List Loc) (ls : Array Slot), lv_has ls 4 [(0, .int x0), (1, .int x1), (2, .int x2), (3, .int x3)] → cw D dA o A s S H locs → W p l e (rC_edgeOf) s m args below meth c H locs 0 0 (cQi below args s D dA o A (rC_edgeOf) post) (F0 m 8 ls [])) {x0 : Int32} {x1 : Int32} {S : CS} (h : C_edgeOf_w0 post T8 x0 x1 S) {H : Heap} {locs : List Loc} {ls : Array Slot} (hl : lv_has ls 4 [(0, .int x0), (1, .int x1)]) (w : cw D dA o A s S H locs) : W p l e (rC_edgeOf) s m args below meth c H locs 0 0 (cQi below args s D dA o A (rC_edgeOf) post) (F0 m 0 ls []) := by
  unfold C_edgeOf_w0 at h
  obtain ⟨⟨hx, hb, hml, hown, hts⟩, hr, hlk, hA⟩ := id C
  refine lv_iload_n hx hb dX0_edgeOf_0 rfl (lv_at hl 0 rfl) ?_
  refine lv_iload_n hx hb dX0_edgeOf_1 rfl (lv_at hl 1 rfl) ?_
  refine va_mmin hx hb (by rw [hml]; exact hl.1.symm) hown (hts _ q315) (hts _ q316) (hts _ q89) (hts _ q317m) (Nat.le_of_ble_eq_true rfl) (Nat.le_of_ble_eq_true rfl) (Nat.le_of_ble_eq_true rfl) (Nat.le_of_ble_eq_true rfl) dX0_edgeOf_2 ?_
  refine lv_istore_n (lv' := [(2, .int _), (0, .int _), (1, .int _)]) hx hb dX0_edgeOf_5 rfl hl (by decide) rfl (fun ls hl => ?_)
  refine lv_iconst (v := 0) hx hb dX0_edgeOf_6 (by decide) ?_
  refine lv_istore_n (lv' := [(3, .int _), (2, .int _), (0, .int _), (1, .int _)]) hx hb dX0_edgeOf_7 rfl hl (by decide) rfl (fun ls hl => ?_)
  exact hT8 _ _ _ _ _ h _ _ _ (lv_sub hl [2, 3, 1, 0] rfl) w
def C_edgeOf_VC (x0 : Int32) (x1 : Int32) (S : CS) (post : Int32 → CS → Prop) : Prop := ∀ (T8 : Int32 → Int32 → Int32 → Int32 → CS → Prop), (∀ (x0 : Int32) (x1 : Int32) (x2 : Int32) (x3 : Int32) (S : CS), C_edgeOf_w8 post T8 x0 x1 x2 x3 S → T8 x0 x1 x2 x3 S) → C_edgeOf_w0 post T8 x0 x1 S
theorem C_edgeOf_ok {x0 : Int32} {x1 : Int32} {S : CS} {post : Int32 → CS → Prop} (h : C_edgeOf_VC x0 x1 S post) : C_edgeOf x0 x1 S post := by
  intro l D dA o sz
  refine cr_start (fun A => va_Qi post (cB D dA o A) A) rfl (Nat.le_of_ble_eq_true rfl) (by decide) ?_
  intro p e s m args below meth c ls A C w hl
  have hl : lv_has ls 4 [(0, .int x0), (1, .int x1)] := hl
  have h := h (fun (x0 : Int32) (x1 : Int32) (x2 : Int32) (x3 : Int32) S => ∀ (H : Heap) (locs : List Loc) (ls : Array Slot), lv_has ls 4 [(0, .int x0), (1, .int x1), (2, .int x2), (3, .int x3)] → cw D dA o A s S H locs → W p l e (rC_edgeOf) s m args below meth c H locs 0 0 (cQi below args s D dA o A (rC_edgeOf) post) (F0 m 8 ls [])) (fun _ _ _ _ S h H locs ls hl w => C_edgeOf_a8 C (fun _ _ _ _ _ h => h) h hl w)
  exact C_edgeOf_a0 C (fun _ _ _ _ _ h => h) h (lv_sub hl [0, 1] rfl) w

/-! ThirdSheets.changed()V -/
def C_changed_w0 (post : CS → Prop) (S : CS) : Prop :=
  (fun (S1 : CS) => post S1) (tF S 10 (0 : Int32))
set_option maxHeartbeats 4000000 in
set_option maxRecDepth 100000 in
theorem C_changed_a0 {p : Program} {l : Launch} {e : Env} {s : State} {m : MethodId} {args : Array Value} {below : List Frame} {meth : Method} {c : Code} {D : va_G} {dA : Nat → ClassId} {o : Nat → Nat} {A : Nat → Prop} {post : CS → Prop} (C : cC RX0 p m c cX0_changed 1 s args meth (Option.none : Option Jvm.ClassFile.FieldType) A) {S : CS} (h : C_changed_w0 post S) {H : Heap} {locs : List Loc} {ls : Array Slot} (hl : lv_has ls 1 [(0, .ref (o 0))]) (w : cw D dA o A s S H locs) : W p l e (rC_changed) s m args below meth c H locs 0 0 (cQv below args s D dA o A (rC_changed) post) (F0 m 0 ls []) := by
  unfold C_changed_w0 at h
  obtain ⟨⟨hx, hb, hml, hown, hts⟩, hr, hlk, hA⟩ := id C
  refine lv_aload_n hx hb dX0_changed_0 rfl (lv_at hl 0 rfl) ?_
  refine lv_iconst (v := 0) hx hb dX0_changed_1 (by decide) ?_
  refine cr_put (ty := .boolean) C w 10 (by decide) q174 rfl rfl (by decide +kernel) rfl rfl CWf_10 dX0_changed_2 (fun H locs w => ?_)
  exact cr_vret C w h (Nat.le_of_ble_eq_true rfl) (Nat.le_of_ble_eq_true rfl) dX0_changed_5
def C_changed_VC (S : CS) (post : CS → Prop) : Prop := C_changed_w0 post S
theorem C_changed_ok {S : CS} {post : CS → Prop} (h : C_changed_VC S post) : C_changed S post := by
  intro l D dA o sz
  refine cr_start (fun A => va_Qv post (cB D dA o A) A) rfl (Nat.le_of_ble_eq_true rfl) (by decide) ?_
  intro p e s m args below meth c ls A C w hl
  have hl : lv_has ls 1 [(0, .ref (o 0))] := hl
  exact C_changed_a0 C h (lv_sub hl [0] rfl) w

/-! ThirdSheets.drop()I -/
def C_drop_w28 (post : Int32 → CS → Prop) (T4 : Int32 → Int32 → CS → Prop) (v0 : Int32) (v1 : Int32) (x2 : Int32) (S : CS) : Prop :=
  (vp_in x2 21 ∧ (fun (S1 : CS) => T4 (v1 + v0) (x2 + (1 : Int32)) S1) (tI S 13 (x2).toNatClampNeg (0 : Int32)))
set_option maxHeartbeats 4000000 in
set_option maxRecDepth 100000 in
theorem C_drop_a28 {p : Program} {l : Launch} {e : Env} {s : State} {m : MethodId} {args : Array Value} {below : List Frame} {meth : Method} {c : Code} {D : va_G} {dA : Nat → ClassId} {o : Nat → Nat} {A : Nat → Prop} {post : Int32 → CS → Prop} {T4 : Int32 → Int32 → CS → Prop} (C : cC RX0 p m c cX0_drop 3 s args meth (Option.some Jvm.ClassFile.FieldType.int) A) (hT4 : ∀ (x1 : Int32) (x2 : Int32) (S : CS), T4 x1 x2 S → ∀ (H : Heap) (locs : List Loc) (ls : Array Slot), lv_has ls 3 [(0, .ref (o 0)), (1, .int x1), (2, .int x2)] → cw D dA o A s S H locs → W p l e (rC_drop) s m args below meth c H locs 0 0 (cQi below args s D dA o A (rC_drop) post) (F0 m 4 ls [])) {v0 : Int32} {v1 : Int32} {x2 : Int32} {S : CS} (h : C_drop_w28 post T4 v0 v1 x2 S) {H : Heap} {locs : List Loc} {ls : Array Slot} (hl : lv_has ls 3 [(0, .ref (o 0)), (2, .int x2)]) (w : cw D dA o A s S H locs) : W p l e (rC_drop) s m args below meth c H locs 0 0 (cQi below args s D dA o A (rC_drop) post) (F0 m 28 ls [.int v0, .int v1]) := by
  unfold C_drop_w28 at h
  obtain ⟨⟨hx, hb, hml, hown, hts⟩, hr, hlk, hA⟩ := id C
  refine lv_iadd hx hb dX0_drop_28 ?_
  refine lv_istore_n (lv' := [(1, .int _), (0, .ref _), (2, .int _)]) hx hb dX0_drop_29 rfl hl (by decide) rfl (fun ls hl => ?_)
  refine lv_aload_n hx hb dX0_drop_30 rfl (lv_at hl 1 rfl) ?_
  refine cr_get C w 0 rfl rfl in_X0 13 (by decide) q177 rfl rfl dX0_drop_31 ?_
  refine lv_iload_n hx hb dX0_drop_34 rfl (lv_at hl 2 rfl) ?_
  refine lv_iconst (v := 0) hx hb dX0_drop_35 (by decide) ?_
  obtain ⟨hi, h⟩ := h
  refine cr_iast C w 8 rfl hi CWs_13 dX0_drop_36 (fun H locs w => ?_)
  refine lv_iinc (v := _ + (1 : Int32)) (lv' := [(2, .int _), (1, .int _), (0, .ref _)]) hx hb dX0_drop_37 hl (k := 2) rfl rfl (by decide) rfl (fun ls hl => ?_)
  refine lv_goto (tgt := 4) hx hb dX0_drop_40 (by decide) ?_
  exact hT4 _ _ _ h _ _ _ (lv_sub hl [2, 1, 0] rfl) w
def C_drop_w4 (post : Int32 → CS → Prop) (T4 : Int32 → Int32 → CS → Prop) (x1 : Int32) (x2 : Int32) (S : CS) : Prop :=
  (((21 : Int32) ≤ x2 → post x1 S) ∧ (¬ (21 : Int32) ≤ x2 → (vp_in x2 21 ∧ (((kI S 13 (x2).toNatClampNeg) = 0 → C_drop_w28 post T4 (0 : Int32) x1 x2 S) ∧ (¬ (kI S 13 (x2).toNatClampNeg) = 0 → C_drop_w28 post T4 (1 : Int32) x1 x2 S)))))
set_option maxHeartbeats 4000000 in
set_option maxRecDepth 100000 in
theorem C_drop_a4 {p : Program} {l : Launch} {e : Env} {s : State} {m : MethodId} {args : Array Value} {below : List Frame} {meth : Method} {c : Code} {D : va_G} {dA : Nat → ClassId} {o : Nat → Nat} {A : Nat → Prop} {post : Int32 → CS → Prop} {T4 : Int32 → Int32 → CS → Prop} (C : cC RX0 p m c cX0_drop 3 s args meth (Option.some Jvm.ClassFile.FieldType.int) A) (hT4 : ∀ (x1 : Int32) (x2 : Int32) (S : CS), T4 x1 x2 S → ∀ (H : Heap) (locs : List Loc) (ls : Array Slot), lv_has ls 3 [(0, .ref (o 0)), (1, .int x1), (2, .int x2)] → cw D dA o A s S H locs → W p l e (rC_drop) s m args below meth c H locs 0 0 (cQi below args s D dA o A (rC_drop) post) (F0 m 4 ls [])) {x1 : Int32} {x2 : Int32} {S : CS} (h : C_drop_w4 post T4 x1 x2 S) {H : Heap} {locs : List Loc} {ls : Array Slot} (hl : lv_has ls 3 [(0, .ref (o 0)), (1, .int x1), (2, .int x2)]) (w : cw D dA o A s S H locs) : W p l e (rC_drop) s m args below meth c H locs 0 0 (cQi below args s D dA o A (rC_drop) post) (F0 m 4 ls []) := by
  unfold C_drop_w4 at h
  obtain ⟨⟨hx, hb, hml, hown, hts⟩, hr, hlk, hA⟩ := id C
  refine lv_iload_n hx hb dX0_drop_4 rfl (lv_at hl 2 rfl) ?_
  refine lv_aload_n hx hb dX0_drop_5 rfl (lv_at hl 0 rfl) ?_
  refine cr_get C w 0 rfl rfl in_X0 13 (by decide) q177 rfl rfl dX0_drop_6 ?_
  refine cr_alen (v := 21) C w 8 rfl rfl dX0_drop_9 ?_
  obtain ⟨h1, h2⟩ := h
  refine lv_icmp_ge (tgt := 43) hx hb dX0_drop_10 (by decide) (fun c1 => ?_) (fun c1 => ?_)
  · have h := h1 c1
    refine lv_iload_n hx hb dX0_drop_43 rfl (lv_at hl 1 rfl) ?_
    exact cr_iret C w h (Nat.le_of_ble_eq_true rfl) (Nat.le_of_ble_eq_true rfl) dX0_drop_44
  · have h := h2 c1
    refine lv_iload_n hx hb dX0_drop_13 rfl (lv_at hl 1 rfl) ?_
    refine lv_aload_n hx hb dX0_drop_14 rfl (lv_at hl 0 rfl) ?_
    refine cr_get C w 0 rfl rfl in_X0 13 (by decide) q177 rfl rfl dX0_drop_15 ?_
    refine lv_iload_n hx hb dX0_drop_18 rfl (lv_at hl 2 rfl) ?_
    obtain ⟨hi, h⟩ := h
    refine cr_iald C w 8 rfl hi dX0_drop_19 ?_
    obtain ⟨h1, h2⟩ := h
    refine lv_if_eq (tgt := 27) hx hb dX0_drop_20 (by decide) (fun c1 => ?_) (fun c1 => ?_)
    · have h := h1 c1
      refine lv_iconst (v := 0) hx hb dX0_drop_27 (by decide) ?_
      exact C_drop_a28 C hT4 h (lv_sub hl [0, 2] rfl) w
    · have h := h2 c1
      refine lv_iconst (v := 1) hx hb dX0_drop_23 (by decide) ?_
      refine lv_goto (tgt := 28) hx hb dX0_drop_24 (by decide) ?_
      exact C_drop_a28 C hT4 h (lv_sub hl [0, 2] rfl) w
def C_drop_w0 (post : Int32 → CS → Prop) (T4 : Int32 → Int32 → CS → Prop) (S : CS) : Prop :=
  T4 (0 : Int32) (0 : Int32) S
set_option maxHeartbeats 4000000 in
set_option maxRecDepth 100000 in
theorem C_drop_a0 {p : Program} {l : Launch} {e : Env} {s : State} {m : MethodId} {args : Array Value} {below : List Frame} {meth : Method} {c : Code} {D : va_G} {dA : Nat → ClassId} {o : Nat → Nat} {A : Nat → Prop} {post : Int32 → CS → Prop} {T4 : Int32 → Int32 → CS → Prop} (C : cC RX0 p m c cX0_drop 3 s args meth (Option.some Jvm.ClassFile.FieldType.int) A) (hT4 : ∀ (x1 : Int32) (x2 : Int32) (S : CS), T4 x1 x2 S → ∀ (H : Heap) (locs : List Loc) (ls : Array Slot), lv_has ls 3 [(0, .ref (o 0)), (1, .int x1), (2, .int x2)] → cw D dA o A s S H locs → W p l e (rC_drop) s m args below meth c H locs 0 0 (cQi below args s D dA o A (rC_drop) post) (F0 m 4 ls [])) {S : CS} (h : C_drop_w0 post T4 S) {H : Heap} {locs : List Loc} {ls : Array Slot} (hl : lv_has ls 3 [(0, .ref (o 0))]) (w : cw D dA o A s S H locs) : W p l e (rC_drop) s m args below meth c H locs 0 0 (cQi below args s D dA o A (rC_drop) post) (F0 m 0 ls []) := by
  unfold C_drop_w0 at h
  obtain ⟨⟨hx, hb, hml, hown, hts⟩, hr, hlk, hA⟩ := id C
  refine lv_iconst (v := 0) hx hb dX0_drop_0 (by decide) ?_
  refine lv_istore_n (lv' := [(1, .int _), (0, .ref _)]) hx hb dX0_drop_1 rfl hl (by decide) rfl (fun ls hl => ?_)
  refine lv_iconst (v := 0) hx hb dX0_drop_2 (by decide) ?_
  refine lv_istore_n (lv' := [(2, .int _), (1, .int _), (0, .ref _)]) hx hb dX0_drop_3 rfl hl (by decide) rfl (fun ls hl => ?_)
  exact hT4 _ _ _ h _ _ _ (lv_sub hl [2, 1, 0] rfl) w
def C_drop_VC (S : CS) (post : Int32 → CS → Prop) : Prop := ∀ (T4 : Int32 → Int32 → CS → Prop), (∀ (x1 : Int32) (x2 : Int32) (S : CS), C_drop_w4 post T4 x1 x2 S → T4 x1 x2 S) → C_drop_w0 post T4 S
theorem C_drop_ok {S : CS} {post : Int32 → CS → Prop} (h : C_drop_VC S post) : C_drop S post := by
  intro l D dA o sz
  refine cr_start (fun A => va_Qi post (cB D dA o A) A) rfl (Nat.le_of_ble_eq_true rfl) (by decide) ?_
  intro p e s m args below meth c ls A C w hl
  have hl : lv_has ls 3 [(0, .ref (o 0))] := hl
  have h := h (fun (x1 : Int32) (x2 : Int32) S => ∀ (H : Heap) (locs : List Loc) (ls : Array Slot), lv_has ls 3 [(0, .ref (o 0)), (1, .int x1), (2, .int x2)] → cw D dA o A s S H locs → W p l e (rC_drop) s m args below meth c H locs 0 0 (cQi below args s D dA o A (rC_drop) post) (F0 m 4 ls [])) (fun _ _ S h H locs ls hl w => C_drop_a4 C (fun _ _ _ h => h) h hl w)
  exact C_drop_a0 C (fun _ _ _ h => h) h (lv_sub hl [0] rfl) w

/-! ThirdSheets.piece()I -/
def C_piece_w13 (post : Int32 → CS → Prop) (T13 : Int32 → CS → Prop) (x1 : Int32) (S : CS) : Prop :=
  (((4 : Int32) ≤ x1 → (fun (S1 : CS) => C_drop S1 (fun (r2 : Int32) (S2 : CS) => C_changed S2 (fun (S3 : CS) => post ((kF S3 1) - (1 : Int32)) S3))) (tF S 1 ((kF S 1) + (1 : Int32)))) ∧ (¬ (4 : Int32) ≤ x1 → (vp_in (kF S 1) 3 ∧ (vp_in x1 4 ∧ (fun (S5 : CS) => T13 (x1 + (1 : Int32)) S5) (tGl S (((kF S 1)).toNatClampNeg) (x1).toNatClampNeg none)))))
set_option maxHeartbeats 4000000 in
set_option maxRecDepth 100000 in
theorem C_piece_a13 {p : Program} {l : Launch} {e : Env} {s : State} {m : MethodId} {args : Array Value} {below : List Frame} {meth : Method} {c : Code} {D : va_G} {dA : Nat → ClassId} {o : Nat → Nat} {A : Nat → Prop} {post : Int32 → CS → Prop} {T13 : Int32 → CS → Prop} (C : cC RX0 p m c cX0_piece 2 s args meth (Option.some Jvm.ClassFile.FieldType.int) A) (hT13 : ∀ (x1 : Int32) (S : CS), T13 x1 S → ∀ (H : Heap) (locs : List Loc) (ls : Array Slot), lv_has ls 2 [(0, .ref (o 0)), (1, .int x1)] → cw D dA o A s S H locs → W p l e (rC_piece) s m args below meth c H locs 0 0 (cQi below args s D dA o A (rC_piece) post) (F0 m 13 ls [])) {x1 : Int32} {S : CS} (h : C_piece_w13 post T13 x1 S) {H : Heap} {locs : List Loc} {ls : Array Slot} (hl : lv_has ls 2 [(0, .ref (o 0)), (1, .int x1)]) (w : cw D dA o A s S H locs) : W p l e (rC_piece) s m args below meth c H locs 0 0 (cQi below args s D dA o A (rC_piece) post) (F0 m 13 ls []) := by
  unfold C_piece_w13 at h
  obtain ⟨⟨hx, hb, hml, hown, hts⟩, hr, hlk, hA⟩ := id C
  refine lv_iload_n hx hb dX0_piece_13 rfl (lv_at hl 1 rfl) ?_
  refine lv_iconst (v := 4) hx hb dX0_piece_14 (by decide) ?_
  obtain ⟨h1, h2⟩ := h
  refine lv_icmp_ge (tgt := 36) hx hb dX0_piece_15 (by decide) (fun c1 => ?_) (fun c1 => ?_)
  · have h := h1 c1
    refine lv_aload_n hx hb dX0_piece_36 rfl (lv_at hl 0 rfl) ?_
    refine lv_dup hx hb dX0_piece_37 rfl ?_
    refine cr_get C w 0 rfl rfl in_X0 1 (by decide) q164 rfl rfl dX0_piece_38 ?_
    refine lv_iconst (v := 1) hx hb dX0_piece_41 (by decide) ?_
    refine lv_iadd hx hb dX0_piece_42 ?_
    refine cr_put (ty := .int) C w 1 (by decide) q164 rfl rfl (by decide +kernel) rfl rfl CWf_1 dX0_piece_43 (fun H locs w => ?_)
    refine lv_aload_n hx hb dX0_piece_46 rfl (lv_at hl 0 rfl) ?_
    refine cr_callVI (rest := []) (b := (fun o => o 0)) C w h (recv0 w) (cwV 0 hts (lw_V q228 q229 q230 q82 q231) rfl rfl rfl C_drop_d ⟨Nat.le_of_ble_eq_true rfl, Nat.le_of_ble_eq_true rfl⟩) rfl hl.1 rfl (Nat.le_of_ble_eq_true rfl) ⟨Nat.le_of_ble_eq_true rfl, Nat.le_of_ble_eq_true rfl⟩ dX0_piece_47 (fun r2 S2 H locs h w => ?_)
    refine lv_istore_n (lv' := [(1, .int _), (0, .ref _)]) hx hb dX0_piece_50 rfl hl (by decide) rfl (fun ls hl => ?_)
    refine lv_aload_n hx hb dX0_piece_51 rfl (lv_at hl 1 rfl) ?_
    refine cr_callVV (rest := []) (b := (fun o => o 0)) C w h (recv0 w) (cwV 0 hts (lw_V q232 q234 qs0 q82 q235) rfl rfl rfl C_changed_d ⟨Nat.le_of_ble_eq_true rfl, Nat.le_of_ble_eq_true rfl⟩) rfl hl.1 rfl (Nat.le_of_ble_eq_true rfl) ⟨Nat.le_of_ble_eq_true rfl, Nat.le_of_ble_eq_true rfl⟩ dX0_piece_52 (fun S3 H locs h w => ?_)
    refine lv_aload_n hx hb dX0_piece_55 rfl (lv_at hl 1 rfl) ?_
    refine cr_get C w 0 rfl rfl in_X0 1 (by decide) q164 rfl rfl dX0_piece_56 ?_
    refine lv_iconst (v := 1) hx hb dX0_piece_59 (by decide) ?_
    refine lv_isub hx hb dX0_piece_60 ?_
    exact cr_iret C w h (Nat.le_of_ble_eq_true rfl) (Nat.le_of_ble_eq_true rfl) dX0_piece_61
  · have h := h2 c1
    refine lv_aload_n hx hb dX0_piece_18 rfl (lv_at hl 0 rfl) ?_
    refine cr_get C w 0 rfl rfl in_X0 0 (by decide) q162 rfl rfl dX0_piece_19 ?_
    refine lv_aload_n hx hb dX0_piece_22 rfl (lv_at hl 0 rfl) ?_
    refine cr_get C w 0 rfl rfl in_X0 1 (by decide) q164 rfl rfl dX0_piece_23 ?_
    obtain ⟨hi, h⟩ := h
    have hj4 := vp_lt hi
    refine cr_gout C w hi dX0_piece_26 ?_
    refine lv_iload_n hx hb dX0_piece_27 rfl (lv_at hl 1 rfl) ?_
    refine lv_null hx hb dX0_piece_28 ?_
    obtain ⟨hi, h⟩ := h
    refine cr_gstN C w hj4 hi dX0_piece_29 (fun H locs w => ?_)
    refine lv_iinc (v := _ + (1 : Int32)) (lv' := [(1, .int _), (0, .ref _)]) hx hb dX0_piece_30 hl (k := 1) rfl rfl (by decide) rfl (fun ls hl => ?_)
    refine lv_goto (tgt := 13) hx hb dX0_piece_33 (by decide) ?_
    exact hT13 _ _ h _ _ _ (lv_sub hl [1, 0] rfl) w
def C_piece_w0 (post : Int32 → CS → Prop) (T13 : Int32 → CS → Prop) (S : CS) : Prop :=
  ((¬ (kF S 1) = (3 : Int32) → T13 (0 : Int32) S) ∧ ((kF S 1) = (3 : Int32) → post (-4 : Int32) S))
set_option maxHeartbeats 4000000 in
set_option maxRecDepth 100000 in
theorem C_piece_a0 {p : Program} {l : Launch} {e : Env} {s : State} {m : MethodId} {args : Array Value} {below : List Frame} {meth : Method} {c : Code} {D : va_G} {dA : Nat → ClassId} {o : Nat → Nat} {A : Nat → Prop} {post : Int32 → CS → Prop} {T13 : Int32 → CS → Prop} (C : cC RX0 p m c cX0_piece 2 s args meth (Option.some Jvm.ClassFile.FieldType.int) A) (hT13 : ∀ (x1 : Int32) (S : CS), T13 x1 S → ∀ (H : Heap) (locs : List Loc) (ls : Array Slot), lv_has ls 2 [(0, .ref (o 0)), (1, .int x1)] → cw D dA o A s S H locs → W p l e (rC_piece) s m args below meth c H locs 0 0 (cQi below args s D dA o A (rC_piece) post) (F0 m 13 ls [])) {S : CS} (h : C_piece_w0 post T13 S) {H : Heap} {locs : List Loc} {ls : Array Slot} (hl : lv_has ls 2 [(0, .ref (o 0))]) (w : cw D dA o A s S H locs) : W p l e (rC_piece) s m args below meth c H locs 0 0 (cQi below args s D dA o A (rC_piece) post) (F0 m 0 ls []) := by
  unfold C_piece_w0 at h
  obtain ⟨⟨hx, hb, hml, hown, hts⟩, hr, hlk, hA⟩ := id C
  refine lv_aload_n hx hb dX0_piece_0 rfl (lv_at hl 0 rfl) ?_
  refine cr_get C w 0 rfl rfl in_X0 1 (by decide) q164 rfl rfl dX0_piece_1 ?_
  refine lv_iconst (v := 3) hx hb dX0_piece_4 (by decide) ?_
  obtain ⟨h1, h2⟩ := h
  refine lv_icmp_ne (tgt := 11) hx hb dX0_piece_5 (by decide) (fun c1 => ?_) (fun c1 => ?_)
  · have h := h1 c1
    refine lv_iconst (v := 0) hx hb dX0_piece_11 (by decide) ?_
    refine lv_istore_n (lv' := [(1, .int _), (0, .ref _)]) hx hb dX0_piece_12 rfl hl (by decide) rfl (fun ls hl => ?_)
    exact hT13 _ _ h _ _ _ (lv_sub hl [1, 0] rfl) w
  · have h := h2 c1
    refine lv_bipush (v := -4) hx hb dX0_piece_8 (by decide) ?_
    exact cr_iret C w h (Nat.le_of_ble_eq_true rfl) (Nat.le_of_ble_eq_true rfl) dX0_piece_10
def C_piece_VC (S : CS) (post : Int32 → CS → Prop) : Prop := ∀ (T13 : Int32 → CS → Prop), (∀ (x1 : Int32) (S : CS), C_piece_w13 post T13 x1 S → T13 x1 S) → C_piece_w0 post T13 S
theorem C_piece_ok {S : CS} {post : Int32 → CS → Prop} (h : C_piece_VC S post) : C_piece S post := by
  intro l D dA o sz
  refine cr_start (fun A => va_Qi post (cB D dA o A) A) rfl (Nat.le_of_ble_eq_true rfl) (by decide) ?_
  intro p e s m args below meth c ls A C w hl
  have hl : lv_has ls 2 [(0, .ref (o 0))] := hl
  have h := h (fun (x1 : Int32) S => ∀ (H : Heap) (locs : List Loc) (ls : Array Slot), lv_has ls 2 [(0, .ref (o 0)), (1, .int x1)] → cw D dA o A s S H locs → W p l e (rC_piece) s m args below meth c H locs 0 0 (cQi below args s D dA o A (rC_piece) post) (F0 m 13 ls [])) (fun _ S h H locs ls hl w => C_piece_a13 C (fun _ _ h => h) h hl w)
  exact C_piece_a0 C (fun _ _ h => h) h (lv_sub hl [0] rfl) w

/-! ThirdSheets$Glue.<init>(II[I)V -/
def C_initG_w0 (post : CS → Prop) (a0 : Nat) (x1 : Int32) (x2 : Int32) (a3 : Nat) (S : CS) : Prop :=
  (pk S a0 4 ∧ (fun (S1 : CS) => (pk S1 a0 4 ∧ (fun (S2 : CS) => (pk S2 a0 4 ∧ (fun (S3 : CS) => post S3) (tG S2 a0 0 ((kG S2 a0).1, (kG S2 a0).2.1, a3)))) (tG S1 a0 4 ((kG S1 a0).1, x2, (kG S1 a0).2.2)))) (tG S a0 4 (x1, (kG S a0).2)))
set_option maxHeartbeats 4000000 in
set_option maxRecDepth 100000 in
theorem C_initG_a0 {p : Program} {l : Launch} {e : Env} {s : State} {m : MethodId} {args : Array Value} {below : List Frame} {meth : Method} {c : Code} {D : va_G} {dA : Nat → ClassId} {o : Nat → Nat} {A : Nat → Prop} {post : CS → Prop} (C : cC RX6 p m c cX6_init 4 s args meth (Option.none : Option Jvm.ClassFile.FieldType) A) (hini : meth.name = "<init>") {a0 : Nat} {x1 : Int32} {x2 : Int32} {a3 : Nat} {S : CS} (h : C_initG_w0 post a0 x1 x2 a3 S) {H : Heap} {locs : List Loc} {ls : Array Slot} (hl : lv_has ls 4 [(0, .ref a0), (1, .int x1), (2, .int x2), (3, .ref a3)]) (w : cw D dA o A s S H locs) : W p l e (rC_initG) s m args below meth c H locs 0 0 (cQv below args s D dA o A (rC_initG) post) (F0 m 0 ls []) := by
  unfold C_initG_w0 at h
  obtain ⟨⟨hx, hb, hml, hown, hts⟩, hr, hlk, hA⟩ := id C
  refine lv_aload_n hx hb dX6_init_0 rfl (lv_at hl 0 rfl) ?_
  refine W.objInit hx hb hown (hts _ q255) (hts _ q98) (hts _ q99) rfl (by rw [hml]; exact hl.1) rfl dX6_init_1 (Nat.le_of_ble_eq_true rfl) (Nat.le_of_ble_eq_true rfl) ?_
  refine W.eq (g2 := F0 m 4 ls []) rfl ?_
  refine lv_aload_n hx hb dX6_init_4 rfl (lv_at hl 0 rfl) ?_
  refine lv_iload_n hx hb dX6_init_5 rfl (lv_at hl 1 rfl) ?_
  obtain ⟨hpk, h⟩ := h
  refine cr_putGp C hini w hpk q256 dX6_init_6 (fun H locs w => ?_)
  refine lv_aload_n hx hb dX6_init_9 rfl (lv_at hl 0 rfl) ?_
  refine lv_iload_n hx hb dX6_init_10 rfl (lv_at hl 2 rfl) ?_
  obtain ⟨hpk, h⟩ := h
  refine cr_putGs C hini w hpk q259 dX6_init_11 (fun H locs w => ?_)
  refine lv_aload_n hx hb dX6_init_14 rfl (lv_at hl 0 rfl) ?_
  refine lv_aload_n hx hb dX6_init_15 rfl (lv_at hl 3 rfl) ?_
  obtain ⟨hpk, h⟩ := h
  refine cr_putGt C hini w hpk q261 dX6_init_16 (fun H locs w => ?_)
  exact cr_vret C w h (Nat.le_of_ble_eq_true rfl) (Nat.le_of_ble_eq_true rfl) dX6_init_19
def C_initG_VC (a0 : Nat) (x1 : Int32) (x2 : Int32) (a3 : Nat) (S : CS) (post : CS → Prop) : Prop := C_initG_w0 post a0 x1 x2 a3 S
theorem C_initG_ok {a0 : Nat} {x1 : Int32} {x2 : Int32} {a3 : Nat} {S : CS} {post : CS → Prop} (h : C_initG_VC a0 x1 x2 a3 S post) : C_initG a0 x1 x2 a3 S post := by
  intro l D dA o sz
  refine cr_startI (fun A => va_Qv post (cB D dA o A) A) rfl (Nat.le_of_ble_eq_true rfl) (by decide) rfl ?_
  intro p e s m args below meth c ls A C hini w hl
  have hl : lv_has ls 4 [(0, .ref a0), (1, .int x1), (2, .int x2), (3, .ref a3)] := hl
  exact C_initG_a0 C hini h (lv_sub hl [0, 1, 2, 3] rfl) w

/-! ThirdSheets.glue(IIIII)I -/
def C_glue_w194 (post : Int32 → CS → Prop) (T78 : Int32 → Int32 → Int32 → Int32 → Int32 → Nat → Nat → Int32 → Int32 → Int32 → CS → Prop) (S : CS) : Prop :=
  post (-3 : Int32) S
set_option maxHeartbeats 4000000 in
set_option maxRecDepth 100000 in
theorem C_glue_a194 {p : Program} {l : Launch} {e : Env} {s : State} {m : MethodId} {args : Array Value} {below : List Frame} {meth : Method} {c : Code} {D : va_G} {dA : Nat → ClassId} {o : Nat → Nat} {A : Nat → Prop} {post : Int32 → CS → Prop} {T78 : Int32 → Int32 → Int32 → Int32 → Int32 → Nat → Nat → Int32 → Int32 → Int32 → CS → Prop} (C : cC RX0 p m c cX0_glue 12 s args meth (Option.some Jvm.ClassFile.FieldType.int) A) (hT78 : ∀ (x1 : Int32) (x2 : Int32) (x3 : Int32) (x4 : Int32) (x5 : Int32) (a6 : Nat) (a7 : Nat) (x8 : Int32) (x9 : Int32) (x10 : Int32) (S : CS), T78 x1 x2 x3 x4 x5 a6 a7 x8 x9 x10 S → ∀ (H : Heap) (locs : List Loc) (ls : Array Slot), lv_has ls 12 [(0, .ref (o 0)), (1, .int x1), (2, .int x2), (3, .int x3), (4, .int x4), (5, .int x5), (6, .ref a6), (7, .ref a7), (8, .int x8), (9, .int x9), (10, .int x10)] → cw D dA o A s S H locs → W p l e (rC_glue) s m args below meth c H locs 2 8 (cQi below args s D dA o A (rC_glue) post) (F0 m 78 ls [])) {S : CS} (h : C_glue_w194 post T78 S) {H : Heap} {locs : List Loc} {ls : Array Slot} (hl : lv_has ls 12 [(0, .ref (o 0))]) (w : cw D dA o A s S H locs) : W p l e (rC_glue) s m args below meth c H locs 2 8 (cQi below args s D dA o A (rC_glue) post) (F0 m 194 ls []) := by
  unfold C_glue_w194 at h
  obtain ⟨⟨hx, hb, hml, hown, hts⟩, hr, hlk, hA⟩ := id C
  refine lv_bipush (v := -3) hx hb dX0_glue_194 (by decide) ?_
  exact cr_iret C w h (Nat.le_of_ble_eq_true rfl) (Nat.le_of_ble_eq_true rfl) dX0_glue_196
def C_glue_w142 (post : Int32 → CS → Prop) (T78 : Int32 → Int32 → Int32 → Int32 → Int32 → Nat → Nat → Int32 → Int32 → Int32 → CS → Prop) (x1 : Int32) (x2 : Int32) (x3 : Int32) (x4 : Int32) (x5 : Int32) (a6 : Nat) (a7 : Nat) (x8 : Int32) (x9 : Int32) (x10 : Int32) (x11 : Int32) (S : CS) : Prop :=
  (pk S a6 1 ∧ vp_in x10 (kN S a6) ∧ (fun (S1 : CS) => (pk S1 a7 1 ∧ vp_in x11 (kN S1 a7) ∧ (fun (S2 : CS) => T78 x1 x2 x3 x4 x5 a6 a7 (x8 ||| ((1 : Int32) <<< (x11 &&& 31))) x9 (x10 + (1 : Int32)) S2) (tT S1 a7 (x11).toNatClampNeg x10))) (tT S a6 (x10).toNatClampNeg x11))
set_option maxHeartbeats 4000000 in
set_option maxRecDepth 100000 in
theorem C_glue_a142 {p : Program} {l : Launch} {e : Env} {s : State} {m : MethodId} {args : Array Value} {below : List Frame} {meth : Method} {c : Code} {D : va_G} {dA : Nat → ClassId} {o : Nat → Nat} {A : Nat → Prop} {post : Int32 → CS → Prop} {T78 : Int32 → Int32 → Int32 → Int32 → Int32 → Nat → Nat → Int32 → Int32 → Int32 → CS → Prop} (C : cC RX0 p m c cX0_glue 12 s args meth (Option.some Jvm.ClassFile.FieldType.int) A) (hT78 : ∀ (x1 : Int32) (x2 : Int32) (x3 : Int32) (x4 : Int32) (x5 : Int32) (a6 : Nat) (a7 : Nat) (x8 : Int32) (x9 : Int32) (x10 : Int32) (S : CS), T78 x1 x2 x3 x4 x5 a6 a7 x8 x9 x10 S → ∀ (H : Heap) (locs : List Loc) (ls : Array Slot), lv_has ls 12 [(0, .ref (o 0)), (1, .int x1), (2, .int x2), (3, .int x3), (4, .int x4), (5, .int x5), (6, .ref a6), (7, .ref a7), (8, .int x8), (9, .int x9), (10, .int x10)] → cw D dA o A s S H locs → W p l e (rC_glue) s m args below meth c H locs 2 8 (cQi below args s D dA o A (rC_glue) post) (F0 m 78 ls [])) {x1 : Int32} {x2 : Int32} {x3 : Int32} {x4 : Int32} {x5 : Int32} {a6 : Nat} {a7 : Nat} {x8 : Int32} {x9 : Int32} {x10 : Int32} {x11 : Int32} {S : CS} (h : C_glue_w142 post T78 x1 x2 x3 x4 x5 a6 a7 x8 x9 x10 x11 S) {H : Heap} {locs : List Loc} {ls : Array Slot} (hl : lv_has ls 12 [(0, .ref (o 0)), (1, .int x1), (2, .int x2), (3, .int x3), (4, .int x4), (5, .int x5), (6, .ref a6), (7, .ref a7), (8, .int x8), (9, .int x9), (10, .int x10), (11, .int x11)]) (w : cw D dA o A s S H locs) : W p l e (rC_glue) s m args below meth c H locs 2 8 (cQi below args s D dA o A (rC_glue) post) (F0 m 142 ls []) := by
  unfold C_glue_w142 at h
  obtain ⟨⟨hx, hb, hml, hown, hts⟩, hr, hlk, hA⟩ := id C
  refine lv_iload hx hb dX0_glue_142 (lv_at hl 8 rfl) ?_
  refine lv_iconst (v := 1) hx hb dX0_glue_144 (by decide) ?_
  refine lv_iload hx hb dX0_glue_145 (lv_at hl 11 rfl) ?_
  refine lv_ishl hx hb dX0_glue_147 ?_
  refine lv_ior hx hb dX0_glue_148 ?_
  refine lv_istore (lv' := [(8, .int _), (0, .ref _), (1, .int _), (2, .int _), (3, .int _), (4, .int _), (5, .int _), (6, .ref _), (7, .ref _), (9, .int _), (10, .int _), (11, .int _)]) hx hb dX0_glue_149 hl (by decide) rfl (fun ls hl => ?_)
  refine lv_aload hx hb dX0_glue_151 (lv_at hl 7 rfl) ?_
  refine lv_iload hx hb dX0_glue_153 (lv_at hl 10 rfl) ?_
  refine lv_iload hx hb dX0_glue_155 (lv_at hl 11 rfl) ?_
  obtain ⟨hpk, hi, h⟩ := h
  refine cr_tast C w hpk hi dX0_glue_157 (fun H locs w => ?_)
  refine lv_aload hx hb dX0_glue_158 (lv_at hl 8 rfl) ?_
  refine lv_iload hx hb dX0_glue_160 (lv_at hl 11 rfl) ?_
  refine lv_iload hx hb dX0_glue_162 (lv_at hl 10 rfl) ?_
  obtain ⟨hpk, hi, h⟩ := h
  refine cr_tast C w hpk hi dX0_glue_164 (fun H locs w => ?_)
  refine lv_iinc (v := _ + (1 : Int32)) (lv' := [(10, .int _), (8, .int _), (0, .ref _), (1, .int _), (2, .int _), (3, .int _), (4, .int _), (5, .int _), (6, .ref _), (7, .ref _), (9, .int _), (11, .int _)]) hx hb dX0_glue_165 hl (k := 10) rfl rfl (by decide) rfl (fun ls hl => ?_)
  refine lv_goto (tgt := 78) hx hb dX0_glue_168 (by decide) ?_
  exact hT78 _ _ _ _ _ _ _ _ _ _ _ h _ _ _ (lv_sub hl [2, 3, 4, 5, 6, 7, 8, 9, 1, 10, 0] rfl) w
def C_glue_w119 (post : Int32 → CS → Prop) (T78 : Int32 → Int32 → Int32 → Int32 → Int32 → Nat → Nat → Int32 → Int32 → Int32 → CS → Prop) (v0 : Int32) (v1 : Int32) (x1 : Int32) (x2 : Int32) (x3 : Int32) (x4 : Int32) (x5 : Int32) (a6 : Nat) (a7 : Nat) (x8 : Int32) (x10 : Int32) (x11 : Int32) (S : CS) : Prop :=
  ((x10 = x2 → C_glue_w142 post T78 x1 x2 x3 x4 x5 a6 a7 x8 (v1 + v0) x10 x11 S) ∧ (¬ x10 = x2 → ((¬ ((x8 >>> (x11 &&& 31)) &&& (1 : Int32)) = (1 : Int32) → C_glue_w142 post T78 x1 x2 x3 x4 x5 a6 a7 x8 (v1 + v0) x10 x11 S) ∧ (((x8 >>> (x11 &&& 31)) &&& (1 : Int32)) = (1 : Int32) → post (-2 : Int32) S))))
set_option maxHeartbeats 4000000 in
set_option maxRecDepth 100000 in
theorem C_glue_a119 {p : Program} {l : Launch} {e : Env} {s : State} {m : MethodId} {args : Array Value} {below : List Frame} {meth : Method} {c : Code} {D : va_G} {dA : Nat → ClassId} {o : Nat → Nat} {A : Nat → Prop} {post : Int32 → CS → Prop} {T78 : Int32 → Int32 → Int32 → Int32 → Int32 → Nat → Nat → Int32 → Int32 → Int32 → CS → Prop} (C : cC RX0 p m c cX0_glue 12 s args meth (Option.some Jvm.ClassFile.FieldType.int) A) (hT78 : ∀ (x1 : Int32) (x2 : Int32) (x3 : Int32) (x4 : Int32) (x5 : Int32) (a6 : Nat) (a7 : Nat) (x8 : Int32) (x9 : Int32) (x10 : Int32) (S : CS), T78 x1 x2 x3 x4 x5 a6 a7 x8 x9 x10 S → ∀ (H : Heap) (locs : List Loc) (ls : Array Slot), lv_has ls 12 [(0, .ref (o 0)), (1, .int x1), (2, .int x2), (3, .int x3), (4, .int x4), (5, .int x5), (6, .ref a6), (7, .ref a7), (8, .int x8), (9, .int x9), (10, .int x10)] → cw D dA o A s S H locs → W p l e (rC_glue) s m args below meth c H locs 2 8 (cQi below args s D dA o A (rC_glue) post) (F0 m 78 ls [])) {v0 : Int32} {v1 : Int32} {x1 : Int32} {x2 : Int32} {x3 : Int32} {x4 : Int32} {x5 : Int32} {a6 : Nat} {a7 : Nat} {x8 : Int32} {x10 : Int32} {x11 : Int32} {S : CS} (h : C_glue_w119 post T78 v0 v1 x1 x2 x3 x4 x5 a6 a7 x8 x10 x11 S) {H : Heap} {locs : List Loc} {ls : Array Slot} (hl : lv_has ls 12 [(0, .ref (o 0)), (1, .int x1), (2, .int x2), (3, .int x3), (4, .int x4), (5, .int x5), (6, .ref a6), (7, .ref a7), (8, .int x8), (10, .int x10), (11, .int x11)]) (w : cw D dA o A s S H locs) : W p l e (rC_glue) s m args below meth c H locs 2 8 (cQi below args s D dA o A (rC_glue) post) (F0 m 119 ls [.int v0, .int v1]) := by
  unfold C_glue_w119 at h
  obtain ⟨⟨hx, hb, hml, hown, hts⟩, hr, hlk, hA⟩ := id C
  refine lv_iadd hx hb dX0_glue_119 ?_
  refine lv_istore (lv' := [(9, .int _), (0, .ref _), (1, .int _), (2, .int _), (3, .int _), (4, .int _), (5, .int _), (6, .ref _), (7, .ref _), (8, .int _), (10, .int _), (11, .int _)]) hx hb dX0_glue_120 hl (by decide) rfl (fun ls hl => ?_)
  refine lv_iload hx hb dX0_glue_122 (lv_at hl 10 rfl) ?_
  refine lv_iload_n hx hb dX0_glue_124 rfl (lv_at hl 3 rfl) ?_
  obtain ⟨h1, h2⟩ := h
  refine lv_icmp_eq (tgt := 142) hx hb dX0_glue_125 (by decide) (fun c1 => ?_) (fun c1 => ?_)
  · have h := h1 c1
    exact C_glue_a142 C hT78 h (lv_sub hl [1, 2, 3, 4, 5, 6, 7, 8, 9, 0, 10, 11] rfl) w
  · have h := h2 c1
    refine lv_iload hx hb dX0_glue_128 (lv_at hl 9 rfl) ?_
    refine lv_iload hx hb dX0_glue_130 (lv_at hl 11 rfl) ?_
    refine lv_ishr hx hb dX0_glue_132 ?_
    refine lv_iconst (v := 1) hx hb dX0_glue_133 (by decide) ?_
    refine lv_iand hx hb dX0_glue_134 ?_
    refine lv_iconst (v := 1) hx hb dX0_glue_135 (by decide) ?_
    obtain ⟨h1, h2⟩ := h
    refine lv_icmp_ne (tgt := 142) hx hb dX0_glue_136 (by decide) (fun c1 => ?_) (fun c1 => ?_)
    · have h := h1 c1
      exact C_glue_a142 C hT78 h (lv_sub hl [1, 2, 3, 4, 5, 6, 7, 8, 9, 0, 10, 11] rfl) w
    · have h := h2 c1
      refine lv_bipush (v := -2) hx hb dX0_glue_139 (by decide) ?_
      exact cr_iret C w h (Nat.le_of_ble_eq_true rfl) (Nat.le_of_ble_eq_true rfl) dX0_glue_141
def C_glue_w104 (post : Int32 → CS → Prop) (T78 : Int32 → Int32 → Int32 → Int32 → Int32 → Nat → Nat → Int32 → Int32 → Int32 → CS → Prop) (v0 : Int32) (x1 : Int32) (x2 : Int32) (x3 : Int32) (x4 : Int32) (x5 : Int32) (a6 : Nat) (a7 : Nat) (x8 : Int32) (x9 : Int32) (x10 : Int32) (S : CS) : Prop :=
  ((¬ x10 = x2 → C_glue_w119 post T78 (1 : Int32) x9 x1 x2 x3 x4 x5 a6 a7 x8 x10 v0 S) ∧ (x10 = x2 → C_glue_w119 post T78 (0 : Int32) x9 x1 x2 x3 x4 x5 a6 a7 x8 x10 v0 S))
set_option maxHeartbeats 4000000 in
set_option maxRecDepth 100000 in
theorem C_glue_a104 {p : Program} {l : Launch} {e : Env} {s : State} {m : MethodId} {args : Array Value} {below : List Frame} {meth : Method} {c : Code} {D : va_G} {dA : Nat → ClassId} {o : Nat → Nat} {A : Nat → Prop} {post : Int32 → CS → Prop} {T78 : Int32 → Int32 → Int32 → Int32 → Int32 → Nat → Nat → Int32 → Int32 → Int32 → CS → Prop} (C : cC RX0 p m c cX0_glue 12 s args meth (Option.some Jvm.ClassFile.FieldType.int) A) (hT78 : ∀ (x1 : Int32) (x2 : Int32) (x3 : Int32) (x4 : Int32) (x5 : Int32) (a6 : Nat) (a7 : Nat) (x8 : Int32) (x9 : Int32) (x10 : Int32) (S : CS), T78 x1 x2 x3 x4 x5 a6 a7 x8 x9 x10 S → ∀ (H : Heap) (locs : List Loc) (ls : Array Slot), lv_has ls 12 [(0, .ref (o 0)), (1, .int x1), (2, .int x2), (3, .int x3), (4, .int x4), (5, .int x5), (6, .ref a6), (7, .ref a7), (8, .int x8), (9, .int x9), (10, .int x10)] → cw D dA o A s S H locs → W p l e (rC_glue) s m args below meth c H locs 2 8 (cQi below args s D dA o A (rC_glue) post) (F0 m 78 ls [])) {v0 : Int32} {x1 : Int32} {x2 : Int32} {x3 : Int32} {x4 : Int32} {x5 : Int32} {a6 : Nat} {a7 : Nat} {x8 : Int32} {x9 : Int32} {x10 : Int32} {S : CS} (h : C_glue_w104 post T78 v0 x1 x2 x3 x4 x5 a6 a7 x8 x9 x10 S) {H : Heap} {locs : List Loc} {ls : Array Slot} (hl : lv_has ls 12 [(0, .ref (o 0)), (1, .int x1), (2, .int x2), (3, .int x3), (4, .int x4), (5, .int x5), (6, .ref a6), (7, .ref a7), (8, .int x8), (9, .int x9), (10, .int x10)]) (w : cw D dA o A s S H locs) : W p l e (rC_glue) s m args below meth c H locs 2 8 (cQi below args s D dA o A (rC_glue) post) (F0 m 104 ls [.int v0]) := by
  unfold C_glue_w104 at h
  obtain ⟨⟨hx, hb, hml, hown, hts⟩, hr, hlk, hA⟩ := id C
  refine lv_istore (lv' := [(11, .int _), (0, .ref _), (1, .int _), (2, .int _), (3, .int _), (4, .int _), (5, .int _), (6, .ref _), (7, .ref _), (8, .int _), (9, .int _), (10, .int _)]) hx hb dX0_glue_104 hl (by decide) rfl (fun ls hl => ?_)
  refine lv_iload hx hb dX0_glue_106 (lv_at hl 10 rfl) ?_
  refine lv_iload hx hb dX0_glue_108 (lv_at hl 11 rfl) ?_
  refine lv_iload_n hx hb dX0_glue_110 rfl (lv_at hl 3 rfl) ?_
  obtain ⟨h1, h2⟩ := h
  refine lv_icmp_ne (tgt := 118) hx hb dX0_glue_111 (by decide) (fun c1 => ?_) (fun c1 => ?_)
  · have h := h1 c1
    refine lv_iconst (v := 1) hx hb dX0_glue_118 (by decide) ?_
    exact C_glue_a119 C hT78 h (lv_sub hl [1, 2, 3, 4, 5, 6, 7, 8, 9, 11, 0] rfl) w
  · have h := h2 c1
    refine lv_iconst (v := 0) hx hb dX0_glue_114 (by decide) ?_
    refine lv_goto (tgt := 119) hx hb dX0_glue_115 (by decide) ?_
    exact C_glue_a119 C hT78 h (lv_sub hl [1, 2, 3, 4, 5, 6, 7, 8, 9, 11, 0] rfl) w
def C_glue_w78 (post : Int32 → CS → Prop) (T78 : Int32 → Int32 → Int32 → Int32 → Int32 → Nat → Nat → Int32 → Int32 → Int32 → CS → Prop) (x1 : Int32) (x2 : Int32) (x3 : Int32) (x4 : Int32) (x5 : Int32) (a6 : Nat) (a7 : Nat) (x8 : Int32) (x9 : Int32) (x10 : Int32) (S : CS) : Prop :=
  (((4 : Int32) ≤ x10 → (vp_in x1 3 ∧ (vp_in x2 4 ∧ ((∀ g2 : Nat, (kGl S ((x1).toNatClampNeg) (x2).toNatClampNeg) = some g2 → C_glue_w194 post T78 S) ∧ ((kGl S ((x1).toNatClampNeg) (x2).toNatClampNeg) = none → (vp_in x3 3 ∧ (vp_in x4 4 ∧ (((kGl S ((x3).toNatClampNeg) (x4).toNatClampNeg) = none → (vp_in x1 3 ∧ (∀ q6 : Nat, q6 ∉ kLP S → (fun (S6 : CS) => C_initG q6 x3 x4 a6 S6 (fun (S7 : CS) => (vp_in x2 4 ∧ (pk S7 q6 0 ∧ (fun (S8 : CS) => (vp_in x3 3 ∧ (∀ q10 : Nat, q10 ∉ kLP S8 → (fun (S10 : CS) => C_initG q10 x1 x2 a7 S10 (fun (S11 : CS) => (vp_in x4 4 ∧ (pk S11 q10 0 ∧ (fun (S12 : CS) => C_changed S12 (fun (S13 : CS) => post (1 : Int32) S13)) (tGl S11 ((x3).toNatClampNeg) (x4).toNatClampNeg (some q10)))))) (nG4 S8 q10)))) (tGl S7 ((x1).toNatClampNeg) (x2).toNatClampNeg (some q6)))))) (nG4 S q6)))) ∧ (∀ g4 : Nat, (kGl S ((x3).toNatClampNeg) (x4).toNatClampNeg) = some g4 → C_glue_w194 post T78 S))))))))) ∧ (¬ (4 : Int32) ≤ x10 → ((¬ x10 = x2 → C_glue_w104 post T78 ((x5 >>> (((2 : Int32) * x9) &&& 31)) &&& (3 : Int32)) x1 x2 x3 x4 x5 a6 a7 x8 x9 x10 S) ∧ (x10 = x2 → C_glue_w104 post T78 x4 x1 x2 x3 x4 x5 a6 a7 x8 x9 x10 S))))
set_option maxHeartbeats 4000000 in
set_option maxRecDepth 100000 in
theorem C_glue_a78 {p : Program} {l : Launch} {e : Env} {s : State} {m : MethodId} {args : Array Value} {below : List Frame} {meth : Method} {c : Code} {D : va_G} {dA : Nat → ClassId} {o : Nat → Nat} {A : Nat → Prop} {post : Int32 → CS → Prop} {T78 : Int32 → Int32 → Int32 → Int32 → Int32 → Nat → Nat → Int32 → Int32 → Int32 → CS → Prop} (C : cC RX0 p m c cX0_glue 12 s args meth (Option.some Jvm.ClassFile.FieldType.int) A) (hT78 : ∀ (x1 : Int32) (x2 : Int32) (x3 : Int32) (x4 : Int32) (x5 : Int32) (a6 : Nat) (a7 : Nat) (x8 : Int32) (x9 : Int32) (x10 : Int32) (S : CS), T78 x1 x2 x3 x4 x5 a6 a7 x8 x9 x10 S → ∀ (H : Heap) (locs : List Loc) (ls : Array Slot), lv_has ls 12 [(0, .ref (o 0)), (1, .int x1), (2, .int x2), (3, .int x3), (4, .int x4), (5, .int x5), (6, .ref a6), (7, .ref a7), (8, .int x8), (9, .int x9), (10, .int x10)] → cw D dA o A s S H locs → W p l e (rC_glue) s m args below meth c H locs 2 8 (cQi below args s D dA o A (rC_glue) post) (F0 m 78 ls [])) {x1 : Int32} {x2 : Int32} {x3 : Int32} {x4 : Int32} {x5 : Int32} {a6 : Nat} {a7 : Nat} {x8 : Int32} {x9 : Int32} {x10 : Int32} {S : CS} (h : C_glue_w78 post T78 x1 x2 x3 x4 x5 a6 a7 x8 x9 x10 S) {H : Heap} {locs : List Loc} {ls : Array Slot} (hl : lv_has ls 12 [(0, .ref (o 0)), (1, .int x1), (2, .int x2), (3, .int x3), (4, .int x4), (5, .int x5), (6, .ref a6), (7, .ref a7), (8, .int x8), (9, .int x9), (10, .int x10)]) (w : cw D dA o A s S H locs) : W p l e (rC_glue) s m args below meth c H locs 2 8 (cQi below args s D dA o A (rC_glue) post) (F0 m 78 ls []) := by
  unfold C_glue_w78 at h
  obtain ⟨⟨hx, hb, hml, hown, hts⟩, hr, hlk, hA⟩ := id C
  refine lv_iload hx hb dX0_glue_78 (lv_at hl 10 rfl) ?_
  refine lv_iconst (v := 4) hx hb dX0_glue_80 (by decide) ?_
  obtain ⟨h1, h2⟩ := h
  refine lv_icmp_ge (tgt := 171) hx hb dX0_glue_81 (by decide) (fun c1 => ?_) (fun c1 => ?_)
  · have h := h1 c1
    refine lv_aload_n hx hb dX0_glue_171 rfl (lv_at hl 0 rfl) ?_
    refine cr_get C w 0 rfl rfl in_X0 0 (by decide) q162 rfl rfl dX0_glue_172 ?_
    refine lv_iload_n hx hb dX0_glue_175 rfl (lv_at hl 1 rfl) ?_
    obtain ⟨hi, h⟩ := h
    have hj1 := vp_lt hi
    refine cr_gout C w hi dX0_glue_176 ?_
    refine lv_iload_n hx hb dX0_glue_177 rfl (lv_at hl 2 rfl) ?_
    obtain ⟨hi, h⟩ := h
    refine cr_gin C w hj1 hi dX0_glue_178 ?_
    obtain ⟨h1, h2⟩ := h
    refine lv_ifnonnullQ (tgt := 194) hx hb dX0_glue_179 (by decide) (fun g2 c1 => ?_) (fun c1 => ?_)
    · have h := h1 g2 c1
      exact C_glue_a194 C hT78 h (lv_sub hl [0] rfl) w
    · have h := h2 c1
      refine lv_aload_n hx hb dX0_glue_182 rfl (lv_at hl 0 rfl) ?_
      refine cr_get C w 0 rfl rfl in_X0 0 (by decide) q162 rfl rfl dX0_glue_183 ?_
      refine lv_iload_n hx hb dX0_glue_186 rfl (lv_at hl 3 rfl) ?_
      obtain ⟨hi, h⟩ := h
      have hj3 := vp_lt hi
      refine cr_gout C w hi dX0_glue_187 ?_
      refine lv_iload hx hb dX0_glue_188 (lv_at hl 4 rfl) ?_
      obtain ⟨hi, h⟩ := h
      refine cr_gin C w hj3 hi dX0_glue_190 ?_
      obtain ⟨h1, h2⟩ := h
      refine lv_ifnullQ (tgt := 197) hx hb dX0_glue_191 (by decide) (fun c1 => ?_) (fun g4 c1 => ?_)
      · have h := h1 c1
        refine lv_aload_n hx hb dX0_glue_197 rfl (lv_at hl 0 rfl) ?_
        refine cr_get C w 0 rfl rfl in_X0 0 (by decide) q162 rfl rfl dX0_glue_198 ?_
        refine lv_iload_n hx hb dX0_glue_201 rfl (lv_at hl 1 rfl) ?_
        obtain ⟨hi, h⟩ := h
        have hj5 := vp_lt hi
        refine cr_gout C w hi dX0_glue_202 ?_
        refine lv_iload_n hx hb dX0_glue_203 rfl (lv_at hl 2 rfl) ?_
        refine cr_newG C w q250 q251 q88 (Nat.le_of_ble_eq_true rfl) (Nat.le_of_ble_eq_true rfl) dX0_glue_204 (fun q6 H hq w => ?_)
        have h := h _ hq
        refine W.widen (k := 3) (n := 11) (Nat.le_of_ble_eq_true rfl) (Nat.le_of_ble_eq_true rfl) ?_
        refine lv_dup hx hb dX0_glue_207 rfl ?_
        refine lv_iload_n hx hb dX0_glue_208 rfl (lv_at hl 3 rfl) ?_
        refine lv_iload hx hb dX0_glue_209 (lv_at hl 4 rfl) ?_
        refine lv_aload hx hb dX0_glue_211 (lv_at hl 6 rfl) ?_
        refine cr_callIV (rest := [.ref _, .int _, .ref _]) (b := fun _ => q6) C w h (cwI 3 hts (lw_meth q254) rfl rfl rfl (hts _ q88) (hts _ q252) (hts _ q253) rfl C_initG_d ⟨Nat.le_of_ble_eq_true rfl, Nat.le_of_ble_eq_true rfl⟩) rfl hl.1 rfl (Nat.le_of_ble_eq_true rfl) ⟨Nat.le_of_ble_eq_true rfl, Nat.le_of_ble_eq_true rfl⟩ dX0_glue_213 (fun S7 H locs h w => ?_)
        obtain ⟨hi, h⟩ := h
        obtain ⟨hpk, h⟩ := h
        refine cr_gst C w hj5 hpk hi dX0_glue_216 (fun H locs w => ?_)
        refine lv_aload_n hx hb dX0_glue_217 rfl (lv_at hl 0 rfl) ?_
        refine cr_get C w 0 rfl rfl in_X0 0 (by decide) q162 rfl rfl dX0_glue_218 ?_
        refine lv_iload_n hx hb dX0_glue_221 rfl (lv_at hl 3 rfl) ?_
        obtain ⟨hi, h⟩ := h
        have hj9 := vp_lt hi
        refine cr_gout C w hi dX0_glue_222 ?_
        refine lv_iload hx hb dX0_glue_223 (lv_at hl 4 rfl) ?_
        refine cr_newG C w q250 q251 q88 (Nat.le_of_ble_eq_true rfl) (Nat.le_of_ble_eq_true rfl) dX0_glue_225 (fun q10 H hq w => ?_)
        have h := h _ hq
        refine W.widen (k := 4) (n := 14) (Nat.le_of_ble_eq_true rfl) (Nat.le_of_ble_eq_true rfl) ?_
        refine lv_dup hx hb dX0_glue_228 rfl ?_
        refine lv_iload_n hx hb dX0_glue_229 rfl (lv_at hl 1 rfl) ?_
        refine lv_iload_n hx hb dX0_glue_230 rfl (lv_at hl 2 rfl) ?_
        refine lv_aload hx hb dX0_glue_231 (lv_at hl 7 rfl) ?_
        refine cr_callIV (rest := [.ref _, .int _, .ref _]) (b := fun _ => q10) C w h (cwI 3 hts (lw_meth q254) rfl rfl rfl (hts _ q88) (hts _ q252) (hts _ q253) rfl C_initG_d ⟨Nat.le_of_ble_eq_true rfl, Nat.le_of_ble_eq_true rfl⟩) rfl hl.1 rfl (Nat.le_of_ble_eq_true rfl) ⟨Nat.le_of_ble_eq_true rfl, Nat.le_of_ble_eq_true rfl⟩ dX0_glue_233 (fun S11 H locs h w => ?_)
        obtain ⟨hi, h⟩ := h
        obtain ⟨hpk, h⟩ := h
        refine cr_gst C w hj9 hpk hi dX0_glue_236 (fun H locs w => ?_)
        refine lv_aload_n hx hb dX0_glue_237 rfl (lv_at hl 0 rfl) ?_
        refine cr_callVV (rest := []) (b := (fun o => o 0)) C w h (recv0 w) (cwV 0 hts (lw_V q232 q234 qs0 q82 q235) rfl rfl rfl C_changed_d ⟨Nat.le_of_ble_eq_true rfl, Nat.le_of_ble_eq_true rfl⟩) rfl hl.1 rfl (Nat.le_of_ble_eq_true rfl) ⟨Nat.le_of_ble_eq_true rfl, Nat.le_of_ble_eq_true rfl⟩ dX0_glue_238 (fun S13 H locs h w => ?_)
        refine lv_iconst (v := 1) hx hb dX0_glue_241 (by decide) ?_
        exact cr_iret C w h (Nat.le_of_ble_eq_true rfl) (Nat.le_of_ble_eq_true rfl) dX0_glue_242
      · have h := h2 g4 c1
        exact C_glue_a194 C hT78 h (lv_sub hl [0] rfl) w
  · have h := h2 c1
    refine lv_iload hx hb dX0_glue_84 (lv_at hl 10 rfl) ?_
    refine lv_iload_n hx hb dX0_glue_86 rfl (lv_at hl 2 rfl) ?_
    obtain ⟨h1, h2⟩ := h
    refine lv_icmp_ne (tgt := 95) hx hb dX0_glue_87 (by decide) (fun c1 => ?_) (fun c1 => ?_)
    · have h := h1 c1
      refine lv_iload hx hb dX0_glue_95 (lv_at hl 5 rfl) ?_
      refine lv_iconst (v := 2) hx hb dX0_glue_97 (by decide) ?_
      refine lv_iload hx hb dX0_glue_98 (lv_at hl 9 rfl) ?_
      refine lv_imul hx hb dX0_glue_100 ?_
      refine lv_ishr hx hb dX0_glue_101 ?_
      refine lv_iconst (v := 3) hx hb dX0_glue_102 (by decide) ?_
      refine lv_iand hx hb dX0_glue_103 ?_
      exact C_glue_a104 C hT78 h (lv_sub hl [0, 1, 2, 3, 4, 5, 6, 7, 8, 9, 10] rfl) w
    · have h := h2 c1
      refine lv_iload hx hb dX0_glue_90 (lv_at hl 4 rfl) ?_
      refine lv_goto (tgt := 104) hx hb dX0_glue_92 (by decide) ?_
      exact C_glue_a104 C hT78 h (lv_sub hl [0, 1, 2, 3, 4, 5, 6, 7, 8, 9, 10] rfl) w
def C_glue_w53 (post : Int32 → CS → Prop) (T78 : Int32 → Int32 → Int32 → Int32 → Int32 → Nat → Nat → Int32 → Int32 → Int32 → CS → Prop) (S : CS) : Prop :=
  post (-2 : Int32) S
set_option maxHeartbeats 4000000 in
set_option maxRecDepth 100000 in
theorem C_glue_a53 {p : Program} {l : Launch} {e : Env} {s : State} {m : MethodId} {args : Array Value} {below : List Frame} {meth : Method} {c : Code} {D : va_G} {dA : Nat → ClassId} {o : Nat → Nat} {A : Nat → Prop} {post : Int32 → CS → Prop} {T78 : Int32 → Int32 → Int32 → Int32 → Int32 → Nat → Nat → Int32 → Int32 → Int32 → CS → Prop} (C : cC RX0 p m c cX0_glue 12 s args meth (Option.some Jvm.ClassFile.FieldType.int) A) (hT78 : ∀ (x1 : Int32) (x2 : Int32) (x3 : Int32) (x4 : Int32) (x5 : Int32) (a6 : Nat) (a7 : Nat) (x8 : Int32) (x9 : Int32) (x10 : Int32) (S : CS), T78 x1 x2 x3 x4 x5 a6 a7 x8 x9 x10 S → ∀ (H : Heap) (locs : List Loc) (ls : Array Slot), lv_has ls 12 [(0, .ref (o 0)), (1, .int x1), (2, .int x2), (3, .int x3), (4, .int x4), (5, .int x5), (6, .ref a6), (7, .ref a7), (8, .int x8), (9, .int x9), (10, .int x10)] → cw D dA o A s S H locs → W p l e (rC_glue) s m args below meth c H locs 2 8 (cQi below args s D dA o A (rC_glue) post) (F0 m 78 ls [])) {S : CS} (h : C_glue_w53 post T78 S) {H : Heap} {locs : List Loc} {ls : Array Slot} (hl : lv_has ls 12 [(0, .ref (o 0))]) (w : cw D dA o A s S H locs) : W p l e (rC_glue) s m args below meth c H locs 0 0 (cQi below args s D dA o A (rC_glue) post) (F0 m 53 ls []) := by
  unfold C_glue_w53 at h
  obtain ⟨⟨hx, hb, hml, hown, hts⟩, hr, hlk, hA⟩ := id C
  refine lv_bipush (v := -2) hx hb dX0_glue_53 (by decide) ?_
  exact cr_iret C w h (Nat.le_of_ble_eq_true rfl) (Nat.le_of_ble_eq_true rfl) dX0_glue_55
def C_glue_w42 (post : Int32 → CS → Prop) (T78 : Int32 → Int32 → Int32 → Int32 → Int32 → Nat → Nat → Int32 → Int32 → Int32 → CS → Prop) (x1 : Int32) (x2 : Int32) (x3 : Int32) (x4 : Int32) (x5 : Int32) (S : CS) : Prop :=
  C_isIn x5 (0 : Int32) (63 : Int32) S (fun (r1 : Int32) (S1 : CS) => ((¬ r1 = 0 → (∀ q2 : Nat, q2 ∉ kLP S1 → (fun (S2 : CS) => (∀ q3 : Nat, q3 ∉ kLP S2 → (fun (S3 : CS) => T78 x1 x2 x3 x4 x5 q2 q3 ((1 : Int32) <<< (x4 &&& 31)) (0 : Int32) (0 : Int32) S3) (nT S2 q3 ((4 : Int32)).toNatClampNeg))) (nT S1 q2 ((4 : Int32)).toNatClampNeg))) ∧ (r1 = 0 → C_glue_w53 post T78 S1)))
set_option maxHeartbeats 4000000 in
set_option maxRecDepth 100000 in
theorem C_glue_a42 {p : Program} {l : Launch} {e : Env} {s : State} {m : MethodId} {args : Array Value} {below : List Frame} {meth : Method} {c : Code} {D : va_G} {dA : Nat → ClassId} {o : Nat → Nat} {A : Nat → Prop} {post : Int32 → CS → Prop} {T78 : Int32 → Int32 → Int32 → Int32 → Int32 → Nat → Nat → Int32 → Int32 → Int32 → CS → Prop} (C : cC RX0 p m c cX0_glue 12 s args meth (Option.some Jvm.ClassFile.FieldType.int) A) (hT78 : ∀ (x1 : Int32) (x2 : Int32) (x3 : Int32) (x4 : Int32) (x5 : Int32) (a6 : Nat) (a7 : Nat) (x8 : Int32) (x9 : Int32) (x10 : Int32) (S : CS), T78 x1 x2 x3 x4 x5 a6 a7 x8 x9 x10 S → ∀ (H : Heap) (locs : List Loc) (ls : Array Slot), lv_has ls 12 [(0, .ref (o 0)), (1, .int x1), (2, .int x2), (3, .int x3), (4, .int x4), (5, .int x5), (6, .ref a6), (7, .ref a7), (8, .int x8), (9, .int x9), (10, .int x10)] → cw D dA o A s S H locs → W p l e (rC_glue) s m args below meth c H locs 2 8 (cQi below args s D dA o A (rC_glue) post) (F0 m 78 ls [])) {x1 : Int32} {x2 : Int32} {x3 : Int32} {x4 : Int32} {x5 : Int32} {S : CS} (h : C_glue_w42 post T78 x1 x2 x3 x4 x5 S) {H : Heap} {locs : List Loc} {ls : Array Slot} (hl : lv_has ls 12 [(0, .ref (o 0)), (1, .int x1), (2, .int x2), (3, .int x3), (4, .int x4), (5, .int x5)]) (w : cw D dA o A s S H locs) : W p l e (rC_glue) s m args below meth c H locs 0 0 (cQi below args s D dA o A (rC_glue) post) (F0 m 42 ls []) := by
  unfold C_glue_w42 at h
  obtain ⟨⟨hx, hb, hml, hown, hts⟩, hr, hlk, hA⟩ := id C
  refine lv_iload hx hb dX0_glue_42 (lv_at hl 5 rfl) ?_
  refine lv_iconst (v := 0) hx hb dX0_glue_44 (by decide) ?_
  refine lv_bipush (v := 63) hx hb dX0_glue_45 (by decide) ?_
  refine cr_callSI (rest := []) C w h (va_cwS 3 hts (lw_S q244 q245 q82 q246) rfl rfl rfl C_isIn_d ⟨Nat.le_of_ble_eq_true rfl, Nat.le_of_ble_eq_true rfl⟩) rfl hl.1 rfl (Nat.le_of_ble_eq_true rfl) ⟨Nat.le_of_ble_eq_true rfl, Nat.le_of_ble_eq_true rfl⟩ dX0_glue_47 (fun r1 S1 H locs h w => ?_)
  obtain ⟨h1, h2⟩ := h
  refine lv_if_ne (tgt := 56) hx hb dX0_glue_50 (by decide) (fun c1 => ?_) (fun c1 => ?_)
  · have h := h1 c1
    refine lv_iconst (v := 4) hx hb dX0_glue_56 (by decide) ?_
    refine cr_newT C w (by decide) (Nat.le_of_ble_eq_true rfl) (Nat.le_of_ble_eq_true rfl) (Nat.le_of_ble_eq_true rfl) dX0_glue_57 (fun q2 H hq w => ?_)
    have h := h _ hq
    refine W.widen (k := 1) (n := 4) (Nat.le_of_ble_eq_true rfl) (Nat.le_of_ble_eq_true rfl) ?_
    refine lv_astore (lv' := [(6, .ref _), (0, .ref _), (1, .int _), (2, .int _), (3, .int _), (4, .int _), (5, .int _)]) hx hb dX0_glue_59 hl (by decide) rfl (fun ls hl => ?_)
    refine lv_iconst (v := 4) hx hb dX0_glue_61 (by decide) ?_
    refine cr_newT C w (by decide) (Nat.le_of_ble_eq_true rfl) (Nat.le_of_ble_eq_true rfl) (Nat.le_of_ble_eq_true rfl) dX0_glue_62 (fun q3 H hq w => ?_)
    have h := h _ hq
    refine W.widen (k := 2) (n := 8) (Nat.le_of_ble_eq_true rfl) (Nat.le_of_ble_eq_true rfl) ?_
    refine lv_astore (lv' := [(7, .ref _), (6, .ref _), (0, .ref _), (1, .int _), (2, .int _), (3, .int _), (4, .int _), (5, .int _)]) hx hb dX0_glue_64 hl (by decide) rfl (fun ls hl => ?_)
    refine lv_iconst (v := 1) hx hb dX0_glue_66 (by decide) ?_
    refine lv_iload hx hb dX0_glue_67 (lv_at hl 6 rfl) ?_
    refine lv_ishl hx hb dX0_glue_69 ?_
    refine lv_istore (lv' := [(8, .int _), (7, .ref _), (6, .ref _), (0, .ref _), (1, .int _), (2, .int _), (3, .int _), (4, .int _), (5, .int _)]) hx hb dX0_glue_70 hl (by decide) rfl (fun ls hl => ?_)
    refine lv_iconst (v := 0) hx hb dX0_glue_72 (by decide) ?_
    refine lv_istore (lv' := [(9, .int _), (8, .int _), (7, .ref _), (6, .ref _), (0, .ref _), (1, .int _), (2, .int _), (3, .int _), (4, .int _), (5, .int _)]) hx hb dX0_glue_73 hl (by decide) rfl (fun ls hl => ?_)
    refine lv_iconst (v := 0) hx hb dX0_glue_75 (by decide) ?_
    refine lv_istore (lv' := [(10, .int _), (9, .int _), (8, .int _), (7, .ref _), (6, .ref _), (0, .ref _), (1, .int _), (2, .int _), (3, .int _), (4, .int _), (5, .int _)]) hx hb dX0_glue_76 hl (by decide) rfl (fun ls hl => ?_)
    exact hT78 _ _ _ _ _ _ _ _ _ _ _ h _ _ _ (lv_sub hl [5, 6, 7, 8, 9, 10, 4, 3, 2, 1, 0] rfl) w
  · have h := h2 c1
    exact C_glue_a53 C hT78 h (lv_sub hl [0] rfl) w
def C_glue_w0 (post : Int32 → CS → Prop) (T78 : Int32 → Int32 → Int32 → Int32 → Int32 → Nat → Nat → Int32 → Int32 → Int32 → CS → Prop) (x1 : Int32) (x2 : Int32) (x3 : Int32) (x4 : Int32) (x5 : Int32) (S : CS) : Prop :=
  C_isPiece x1 S (fun (r1 : Int32) (S1 : CS) => ((r1 = 0 → C_glue_w53 post T78 S1) ∧ (¬ r1 = 0 → C_isCorner x2 S1 (fun (r2 : Int32) (S2 : CS) => ((r2 = 0 → C_glue_w53 post T78 S2) ∧ (¬ r2 = 0 → C_isPiece x3 S2 (fun (r3 : Int32) (S3 : CS) => ((r3 = 0 → C_glue_w53 post T78 S3) ∧ (¬ r3 = 0 → C_isCorner x4 S3 (fun (r4 : Int32) (S4 : CS) => ((r4 = 0 → C_glue_w53 post T78 S4) ∧ (¬ r4 = 0 → ((¬ x1 = x3 → C_glue_w42 post T78 x1 x2 x3 x4 x5 S4) ∧ (x1 = x3 → ((x2 = x4 → C_glue_w53 post T78 S4) ∧ (¬ x2 = x4 → C_glue_w42 post T78 x1 x2 x3 x4 x5 S4))))))))))))))))
set_option maxHeartbeats 4000000 in
set_option maxRecDepth 100000 in
theorem C_glue_a0 {p : Program} {l : Launch} {e : Env} {s : State} {m : MethodId} {args : Array Value} {below : List Frame} {meth : Method} {c : Code} {D : va_G} {dA : Nat → ClassId} {o : Nat → Nat} {A : Nat → Prop} {post : Int32 → CS → Prop} {T78 : Int32 → Int32 → Int32 → Int32 → Int32 → Nat → Nat → Int32 → Int32 → Int32 → CS → Prop} (C : cC RX0 p m c cX0_glue 12 s args meth (Option.some Jvm.ClassFile.FieldType.int) A) (hT78 : ∀ (x1 : Int32) (x2 : Int32) (x3 : Int32) (x4 : Int32) (x5 : Int32) (a6 : Nat) (a7 : Nat) (x8 : Int32) (x9 : Int32) (x10 : Int32) (S : CS), T78 x1 x2 x3 x4 x5 a6 a7 x8 x9 x10 S → ∀ (H : Heap) (locs : List Loc) (ls : Array Slot), lv_has ls 12 [(0, .ref (o 0)), (1, .int x1), (2, .int x2), (3, .int x3), (4, .int x4), (5, .int x5), (6, .ref a6), (7, .ref a7), (8, .int x8), (9, .int x9), (10, .int x10)] → cw D dA o A s S H locs → W p l e (rC_glue) s m args below meth c H locs 2 8 (cQi below args s D dA o A (rC_glue) post) (F0 m 78 ls [])) {x1 : Int32} {x2 : Int32} {x3 : Int32} {x4 : Int32} {x5 : Int32} {S : CS} (h : C_glue_w0 post T78 x1 x2 x3 x4 x5 S) {H : Heap} {locs : List Loc} {ls : Array Slot} (hl : lv_has ls 12 [(0, .ref (o 0)), (1, .int x1), (2, .int x2), (3, .int x3), (4, .int x4), (5, .int x5)]) (w : cw D dA o A s S H locs) : W p l e (rC_glue) s m args below meth c H locs 0 0 (cQi below args s D dA o A (rC_glue) post) (F0 m 0 ls []) := by
  unfold C_glue_w0 at h
  obtain ⟨⟨hx, hb, hml, hown, hts⟩, hr, hlk, hA⟩ := id C
  refine lv_aload_n hx hb dX0_glue_0 rfl (lv_at hl 0 rfl) ?_
  refine lv_iload_n hx hb dX0_glue_1 rfl (lv_at hl 1 rfl) ?_
  refine cr_callVI (rest := []) (b := (fun o => o 0)) C w h (recv0 w) (cwV 1 hts (lw_V q240 q242 qs1 q82 q243) rfl rfl rfl C_isPiece_d ⟨Nat.le_of_ble_eq_true rfl, Nat.le_of_ble_eq_true rfl⟩) rfl hl.1 rfl (Nat.le_of_ble_eq_true rfl) ⟨Nat.le_of_ble_eq_true rfl, Nat.le_of_ble_eq_true rfl⟩ dX0_glue_2 (fun r1 S1 H locs h w => ?_)
  obtain ⟨h1, h2⟩ := h
  refine lv_if_eq (tgt := 53) hx hb dX0_glue_5 (by decide) (fun c1 => ?_) (fun c1 => ?_)
  · have h := h1 c1
    exact C_glue_a53 C hT78 h (lv_sub hl [0] rfl) w
  · have h := h2 c1
    refine lv_iload_n hx hb dX0_glue_8 rfl (lv_at hl 2 rfl) ?_
    refine cr_callSI (rest := []) C w h (va_cwS 1 hts (lw_S q247 q248 q82 q249) rfl rfl rfl C_isCorner_d ⟨Nat.le_of_ble_eq_true rfl, Nat.le_of_ble_eq_true rfl⟩) rfl hl.1 rfl (Nat.le_of_ble_eq_true rfl) ⟨Nat.le_of_ble_eq_true rfl, Nat.le_of_ble_eq_true rfl⟩ dX0_glue_9 (fun r2 S2 H locs h w => ?_)
    obtain ⟨h1, h2⟩ := h
    refine lv_if_eq (tgt := 53) hx hb dX0_glue_12 (by decide) (fun c1 => ?_) (fun c1 => ?_)
    · have h := h1 c1
      exact C_glue_a53 C hT78 h (lv_sub hl [0] rfl) w
    · have h := h2 c1
      refine lv_aload_n hx hb dX0_glue_15 rfl (lv_at hl 0 rfl) ?_
      refine lv_iload_n hx hb dX0_glue_16 rfl (lv_at hl 3 rfl) ?_
      refine cr_callVI (rest := []) (b := (fun o => o 0)) C w h (recv0 w) (cwV 1 hts (lw_V q240 q242 qs1 q82 q243) rfl rfl rfl C_isPiece_d ⟨Nat.le_of_ble_eq_true rfl, Nat.le_of_ble_eq_true rfl⟩) rfl hl.1 rfl (Nat.le_of_ble_eq_true rfl) ⟨Nat.le_of_ble_eq_true rfl, Nat.le_of_ble_eq_true rfl⟩ dX0_glue_17 (fun r3 S3 H locs h w => ?_)
      obtain ⟨h1, h2⟩ := h
      refine lv_if_eq (tgt := 53) hx hb dX0_glue_20 (by decide) (fun c1 => ?_) (fun c1 => ?_)
      · have h := h1 c1
        exact C_glue_a53 C hT78 h (lv_sub hl [0] rfl) w
      · have h := h2 c1
        refine lv_iload hx hb dX0_glue_23 (lv_at hl 4 rfl) ?_
        refine cr_callSI (rest := []) C w h (va_cwS 1 hts (lw_S q247 q248 q82 q249) rfl rfl rfl C_isCorner_d ⟨Nat.le_of_ble_eq_true rfl, Nat.le_of_ble_eq_true rfl⟩) rfl hl.1 rfl (Nat.le_of_ble_eq_true rfl) ⟨Nat.le_of_ble_eq_true rfl, Nat.le_of_ble_eq_true rfl⟩ dX0_glue_25 (fun r4 S4 H locs h w => ?_)
        obtain ⟨h1, h2⟩ := h
        refine lv_if_eq (tgt := 53) hx hb dX0_glue_28 (by decide) (fun c1 => ?_) (fun c1 => ?_)
        · have h := h1 c1
          exact C_glue_a53 C hT78 h (lv_sub hl [0] rfl) w
        · have h := h2 c1
          refine lv_iload_n hx hb dX0_glue_31 rfl (lv_at hl 1 rfl) ?_
          refine lv_iload_n hx hb dX0_glue_32 rfl (lv_at hl 3 rfl) ?_
          obtain ⟨h1, h2⟩ := h
          refine lv_icmp_ne (tgt := 42) hx hb dX0_glue_33 (by decide) (fun c1 => ?_) (fun c1 => ?_)
          · have h := h1 c1
            exact C_glue_a42 C hT78 h (lv_sub hl [0, 1, 2, 3, 4, 5] rfl) w
          · have h := h2 c1
            refine lv_iload_n hx hb dX0_glue_36 rfl (lv_at hl 2 rfl) ?_
            refine lv_iload hx hb dX0_glue_37 (lv_at hl 4 rfl) ?_
            obtain ⟨h1, h2⟩ := h
            refine lv_icmp_eq (tgt := 53) hx hb dX0_glue_39 (by decide) (fun c1 => ?_) (fun c1 => ?_)
            · have h := h1 c1
              exact C_glue_a53 C hT78 h (lv_sub hl [0] rfl) w
            · have h := h2 c1
              exact C_glue_a42 C hT78 h (lv_sub hl [0, 1, 2, 3, 4, 5] rfl) w
def C_glue_VC (x1 : Int32) (x2 : Int32) (x3 : Int32) (x4 : Int32) (x5 : Int32) (S : CS) (post : Int32 → CS → Prop) : Prop := ∀ (T78 : Int32 → Int32 → Int32 → Int32 → Int32 → Nat → Nat → Int32 → Int32 → Int32 → CS → Prop), (∀ (x1 : Int32) (x2 : Int32) (x3 : Int32) (x4 : Int32) (x5 : Int32) (a6 : Nat) (a7 : Nat) (x8 : Int32) (x9 : Int32) (x10 : Int32) (S : CS), C_glue_w78 post T78 x1 x2 x3 x4 x5 a6 a7 x8 x9 x10 S → T78 x1 x2 x3 x4 x5 a6 a7 x8 x9 x10 S) → C_glue_w0 post T78 x1 x2 x3 x4 x5 S
theorem C_glue_ok {x1 : Int32} {x2 : Int32} {x3 : Int32} {x4 : Int32} {x5 : Int32} {S : CS} {post : Int32 → CS → Prop} (h : C_glue_VC x1 x2 x3 x4 x5 S post) : C_glue x1 x2 x3 x4 x5 S post := by
  intro l D dA o sz
  refine cr_start (fun A => va_Qi post (cB D dA o A) A) rfl (Nat.le_of_ble_eq_true rfl) (by decide) ?_
  intro p e s m args below meth c ls A C w hl
  have hl : lv_has ls 12 [(0, .ref (o 0)), (1, .int x1), (2, .int x2), (3, .int x3), (4, .int x4), (5, .int x5)] := hl
  have h := h (fun (x1 : Int32) (x2 : Int32) (x3 : Int32) (x4 : Int32) (x5 : Int32) (a6 : Nat) (a7 : Nat) (x8 : Int32) (x9 : Int32) (x10 : Int32) S => ∀ (H : Heap) (locs : List Loc) (ls : Array Slot), lv_has ls 12 [(0, .ref (o 0)), (1, .int x1), (2, .int x2), (3, .int x3), (4, .int x4), (5, .int x5), (6, .ref a6), (7, .ref a7), (8, .int x8), (9, .int x9), (10, .int x10)] → cw D dA o A s S H locs → W p l e (rC_glue) s m args below meth c H locs 2 8 (cQi below args s D dA o A (rC_glue) post) (F0 m 78 ls [])) (fun _ _ _ _ _ _ _ _ _ _ S h H locs ls hl w => C_glue_a78 C (fun _ _ _ _ _ _ _ _ _ _ _ h => h) h hl w)
  exact C_glue_a0 C (fun _ _ _ _ _ _ _ _ _ _ _ h => h) h (lv_sub hl [0, 1, 2, 3, 4, 5] rfl) w
