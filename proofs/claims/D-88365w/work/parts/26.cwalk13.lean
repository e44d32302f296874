/-! ThirdSheets.allCuts()I -/
def C_allCuts_w9 (post : Int32 → CS → Prop) (T9 : Int32 → CS → Prop) (x1 : Int32) (S : CS) : Prop :=
  ((((7 : Int32) * (kF S 1)) ≤ x1 → (vp_in ((7 : Int32) * (kF S 1)) 22 ∧ post (kI S 14 (((7 : Int32) * (kF S 1))).toNatClampNeg) S)) ∧ (¬ ((7 : Int32) * (kF S 1)) ≤ x1 → (vp_in x1 22 ∧ (vp_in x1 21 ∧ (vp_in (x1 + (1 : Int32)) 22 ∧ (fun (S1 : CS) => T9 (x1 + (1 : Int32)) S1) (tI S 14 ((x1 + (1 : Int32))).toNatClampNeg ((kI S 14 (x1).toNatClampNeg) + (kI S 13 (x1).toNatClampNeg))))))))
set_option maxHeartbeats 4000000 in
set_option maxRecDepth 100000 in
theorem C_allCuts_a9 {p : Program} {l : Launch} {e : Env} {s : State} {m : MethodId} {args : Array Value} {below : List Frame} {meth : Method} {c : Code} {D : va_G} {dA : Nat → ClassId} {o : Nat → Nat} {A : Nat → Prop} {post : Int32 → CS → Prop} {T9 : Int32 → CS → Prop} (C : cC RX0 p m c cX0_allCuts 2 s args meth (Option.some Jvm.ClassFile.FieldType.int) A) (hT9 : ∀ (x1 : Int32) (S : CS), T9 x1 S → ∀ (H : Heap) (locs : List Loc) (ls : Array Slot), lv_has ls 2 [(0, .ref (o 0)), (1, .int x1)] → cw D dA o A s S H locs → W p l e (rC_allCuts) s m args below meth c H locs 0 0 (cQi below args s D dA o A (rC_allCuts) post) (F0 m 9 ls [])) {x1 : Int32} {S : CS} (h : C_allCuts_w9 post T9 x1 S) {H : Heap} {locs : List Loc} {ls : Array Slot} (hl : lv_has ls 2 [(0, .ref (o 0)), (1, .int x1)]) (w : cw D dA o A s S H locs) : W p l e (rC_allCuts) s m args below meth c H locs 0 0 (cQi below args s D dA o A (rC_allCuts) post) (F0 m 9 ls []) := by
  unfold C_allCuts_w9 at h
  obtain ⟨⟨hx, hb, hml, hown, hts⟩, hr, hlk, hA⟩ := id C
  refine lv_iload_n hx hb dX0_allCuts_9 rfl (lv_at hl 1 rfl) ?_
  refine lv_bipush (v := 7) hx hb dX0_allCuts_10 (by decide) ?_
  refine lv_aload_n hx hb dX0_allCuts_12 rfl (lv_at hl 0 rfl) ?_
  refine cr_get C w 0 rfl rfl in_X0 1 (by decide) q164 rfl rfl dX0_allCuts_13 ?_
  refine lv_imul hx hb dX0_allCuts_16 ?_
  obtain ⟨h1, h2⟩ := h
  refine lv_icmp_ge (tgt := 47) hx hb dX0_allCuts_17 (by decide) (fun c1 => ?_) (fun c1 => ?_)
  · have h := h1 c1
    refine lv_aload_n hx hb dX0_allCuts_47 rfl (lv_at hl 0 rfl) ?_
    refine cr_get C w 0 rfl rfl in_X0 14 (by decide) q178 rfl rfl dX0_allCuts_48 ?_
    refine lv_bipush (v := 7) hx hb dX0_allCuts_51 (by decide) ?_
    refine lv_aload_n hx hb dX0_allCuts_53 rfl (lv_at hl 0 rfl) ?_
    refine cr_get C w 0 rfl rfl in_X0 1 (by decide) q164 rfl rfl dX0_allCuts_54 ?_
    refine lv_imul hx hb dX0_allCuts_57 ?_
    obtain ⟨hi, h⟩ := h
    refine cr_iald C w 9 rfl hi dX0_allCuts_58 ?_
    exact cr_iret C w h (Nat.le_of_ble_eq_true rfl) (Nat.le_of_ble_eq_true rfl) dX0_allCuts_59
  · have h := h2 c1
    refine lv_aload_n hx hb dX0_allCuts_20 rfl (lv_at hl 0 rfl) ?_
    refine cr_get C w 0 rfl rfl in_X0 14 (by decide) q178 rfl rfl dX0_allCuts_21 ?_
    refine lv_iload_n hx hb dX0_allCuts_24 rfl (lv_at hl 1 rfl) ?_
    refine lv_iconst (v := 1) hx hb dX0_allCuts_25 (by decide) ?_
    refine lv_iadd hx hb dX0_allCuts_26 ?_
    refine lv_aload_n hx hb dX0_allCuts_27 rfl (lv_at hl 0 rfl) ?_
    refine cr_get C w 0 rfl rfl in_X0 14 (by decide) q178 rfl rfl dX0_allCuts_28 ?_
    refine lv_iload_n hx hb dX0_allCuts_31 rfl (lv_at hl 1 rfl) ?_
    obtain ⟨hi, h⟩ := h
    refine cr_iald C w 9 rfl hi dX0_allCuts_32 ?_
    refine lv_aload_n hx hb dX0_allCuts_33 rfl (lv_at hl 0 rfl) ?_
    refine cr_get C w 0 rfl rfl in_X0 13 (by decide) q177 rfl rfl dX0_allCuts_34 ?_
    refine lv_iload_n hx hb dX0_allCuts_37 rfl (lv_at hl 1 rfl) ?_
    obtain ⟨hi, h⟩ := h
    refine cr_iald C w 8 rfl hi dX0_allCuts_38 ?_
    refine lv_iadd hx hb dX0_allCuts_39 ?_
    obtain ⟨hi, h⟩ := h
    refine cr_iast C w 9 rfl hi CWs_14 dX0_allCuts_40 (fun H locs w => ?_)
    refine lv_iinc (v := _ + (1 : Int32)) (lv' := [(1, .int _), (0, .ref _)]) hx hb dX0_allCuts_41 hl (k := 1) rfl rfl (by decide) rfl (fun ls hl => ?_)
    refine lv_goto (tgt := 9) hx hb dX0_allCuts_44 (by decide) ?_
    exact hT9 _ _ h _ _ _ (lv_sub hl [1, 0] rfl) w
def C_allCuts_w0 (post : Int32 → CS → Prop) (T9 : Int32 → CS → Prop) (S : CS) : Prop :=
  (fun (S1 : CS) => T9 (0 : Int32) S1) (tI S 14 ((0 : Int32)).toNatClampNeg (0 : Int32))
set_option maxHeartbeats 4000000 in
set_option maxRecDepth 100000 in
theorem C_allCuts_a0 {p : Program} {l : Launch} {e : Env} {s : State} {m : MethodId} {args : Array Value} {below : List Frame} {meth : Method} {c : Code} {D : va_G} {dA : Nat → ClassId} {o : Nat → Nat} {A : Nat → Prop} {post : Int32 → CS → Prop} {T9 : Int32 → CS → Prop} (C : cC RX0 p m c cX0_allCuts 2 s args meth (Option.some Jvm.ClassFile.FieldType.int) A) (hT9 : ∀ (x1 : Int32) (S : CS), T9 x1 S → ∀ (H : Heap) (locs : List Loc) (ls : Array Slot), lv_has ls 2 [(0, .ref (o 0)), (1, .int x1)] → cw D dA o A s S H locs → W p l e (rC_allCuts) s m args below meth c H locs 0 0 (cQi below args s D dA o A (rC_allCuts) post) (F0 m 9 ls [])) {S : CS} (h : C_allCuts_w0 post T9 S) {H : Heap} {locs : List Loc} {ls : Array Slot} (hl : lv_has ls 2 [(0, .ref (o 0))]) (w : cw D dA o A s S H locs) : W p l e (rC_allCuts) s m args below meth c H locs 0 0 (cQi below args s D dA o A (rC_allCuts) post) (F0 m 0 ls []) := by
  unfold C_allCuts_w0 at h
  obtain ⟨⟨hx, hb, hml, hown, hts⟩, hr, hlk, hA⟩ := id C
  refine lv_aload_n hx hb dX0_allCuts_0 rfl (lv_at hl 0 rfl) ?_
  refine cr_get C w 0 rfl rfl in_X0 14 (by decide) q178 rfl rfl dX0_allCuts_1 ?_
  refine lv_iconst (v := 0) hx hb dX0_allCuts_4 (by decide) ?_
  refine lv_iconst (v := 0) hx hb dX0_allCuts_5 (by decide) ?_
  refine cr_iast C w 9 rfl (by unfold vp_in; decide) CWs_14 dX0_allCuts_6 (fun H locs w => ?_)
  refine lv_iconst (v := 0) hx hb dX0_allCuts_7 (by decide) ?_
  refine lv_istore_n (lv' := [(1, .int _), (0, .ref _)]) hx hb dX0_allCuts_8 rfl hl (by decide) rfl (fun ls hl => ?_)
  exact hT9 _ _ h _ _ _ (lv_sub hl [1, 0] rfl) w
def C_allCuts_VC (S : CS) (post : Int32 → CS → Prop) : Prop := ∀ (T9 : Int32 → CS → Prop), (∀ (x1 : Int32) (S : CS), C_allCuts_w9 post T9 x1 S → T9 x1 S) → C_allCuts_w0 post T9 S
theorem C_allCuts_ok {S : CS} {post : Int32 → CS → Prop} (h : C_allCuts_VC S post) : C_allCuts S post := by
  intro l D dA o sz
  refine cr_start (fun A => va_Qi post (cB D dA o A) A) rfl (Nat.le_of_ble_eq_true rfl) (by decide) ?_
  intro p e s m args below meth c ls A C w hl
  have hl : lv_has ls 2 [(0, .ref (o 0))] := hl
  have h := h (fun (x1 : Int32) S => ∀ (H : Heap) (locs : List Loc) (ls : Array Slot), lv_has ls 2 [(0, .ref (o 0)), (1, .int x1)] → cw D dA o A s S H locs → W p l e (rC_allCuts) s m args below meth c H locs 0 0 (cQi below args s D dA o A (rC_allCuts) post) (F0 m 9 ls [])) (fun _ S h H locs ls hl w => C_allCuts_a9 C (fun _ _ h => h) h hl w)
  exact C_allCuts_a0 C (fun _ _ h => h) h (lv_sub hl [0] rfl) w

/-! ThirdSheets.isNear(II)Z -/
def C_isNear_w16 (post : Int32 → CS → Prop) (v0 : Int32) (S : CS) : Prop :=
  (zok v0 ∧ post v0 S)
set_option maxHeartbeats 4000000 in
set_option maxRecDepth 100000 in
theorem C_isNear_a16 {p : Program} {l : Launch} {e : Env} {s : State} {m : MethodId} {args : Array Value} {below : List Frame} {meth : Method} {c : Code} {D : va_G} {dA : Nat → ClassId} {o : Nat → Nat} {A : Nat → Prop} {post : Int32 → CS → Prop} (C : cC RX0 p m c cX0_isNear 2 s args meth (Option.some Jvm.ClassFile.FieldType.boolean) A) {v0 : Int32} {S : CS} (h : C_isNear_w16 post v0 S) {H : Heap} {locs : List Loc} {ls : Array Slot} (hl : lv_has ls 2 []) (w : cw D dA o A s S H locs) : W p l e (rC_isNear) s m args below meth c H locs 0 0 (cQi below args s D dA o A (rC_isNear) post) (F0 m 16 ls [.int v0]) := by
  unfold C_isNear_w16 at h
  obtain ⟨⟨hx, hb, hml, hown, hts⟩, hr, hlk, hA⟩ := id C
  exact cr_zret C w (zok_n h.1) h.2 (Nat.le_of_ble_eq_true rfl) (Nat.le_of_ble_eq_true rfl) dX0_isNear_16
def C_isNear_w11 (post : Int32 → CS → Prop) (S : CS) : Prop :=
  C_isNear_w16 post (1 : Int32) S
set_option maxHeartbeats 4000000 in
set_option maxRecDepth 100000 in
theorem C_isNear_a11 {p : Program} {l : Launch} {e : Env} {s : State} {m : MethodId} {args : Array Value} {below : List Frame} {meth : Method} {c : Code} {D : va_G} {dA : Nat → ClassId} {o : Nat → Nat} {A : Nat → Prop} {post : Int32 → CS → Prop} (C : cC RX0 p m c cX0_isNear 2 s args meth (Option.some Jvm.ClassFile.FieldType.boolean) A) {S : CS} (h : C_isNear_w11 post S) {H : Heap} {locs : List Loc} {ls : Array Slot} (hl : lv_has ls 2 []) (w : cw D dA o A s S H locs) : W p l e (rC_isNear) s m args below meth c H locs 0 0 (cQi below args s D dA o A (rC_isNear) post) (F0 m 11 ls []) := by
  unfold C_isNear_w11 at h
  obtain ⟨⟨hx, hb, hml, hown, hts⟩, hr, hlk, hA⟩ := id C
  refine lv_iconst (v := 1) hx hb dX0_isNear_11 (by decide) ?_
  refine lv_goto (tgt := 16) hx hb dX0_isNear_12 (by decide) ?_
  exact C_isNear_a16 C h (lv_sub hl [] rfl) w
def C_isNear_w0 (post : Int32 → CS → Prop) (x0 : Int32) (x1 : Int32) (S : CS) : Prop :=
  ((x1 = 0 → C_isNear_w11 post S) ∧ (¬ x1 = 0 → ((¬ x1 = (x0 + (1 : Int32)) → C_isNear_w16 post (0 : Int32) S) ∧ (x1 = (x0 + (1 : Int32)) → C_isNear_w11 post S))))
set_option maxHeartbeats 4000000 in
set_option maxRecDepth 100000 in
theorem C_isNear_a0 {p : Program} {l : Launch} {e : Env} {s : State} {m : MethodId} {args : Array Value} {below : List Frame} {meth : Method} {c : Code} {D : va_G} {dA : Nat → ClassId} {o : Nat → Nat} {A : Nat → Prop} {post : Int32 → CS → Prop} (C : cC RX0 p m c cX0_isNear 2 s args meth (Option.some Jvm.ClassFile.FieldType.boolean) A) {x0 : Int32} {x1 : Int32} {S : CS} (h : C_isNear_w0 post x0 x1 S) {H : Heap} {locs : List Loc} {ls : Array Slot} (hl : lv_has ls 2 [(0, .int x0), (1, .int x1)]) (w : cw D dA o A s S H locs) : W p l e (rC_isNear) s m args below meth c H locs 0 0 (cQi below args s D dA o A (rC_isNear) post) (F0 m 0 ls []) := by
  unfold C_isNear_w0 at h
  obtain ⟨⟨hx, hb, hml, hown, hts⟩, hr, hlk, hA⟩ := id C
  refine lv_iload_n hx hb dX0_isNear_0 rfl (lv_at hl 1 rfl) ?_
  obtain ⟨h1, h2⟩ := h
  refine lv_if_eq (tgt := 11) hx hb dX0_isNear_1 (by decide) (fun c1 => ?_) (fun c1 => ?_)
  · have h := h1 c1
    exact C_isNear_a11 C h (lv_sub hl [] rfl) w
  · have h := h2 c1
    refine lv_iload_n hx hb dX0_isNear_4 rfl (lv_at hl 1 rfl) ?_
    refine lv_iload_n hx hb dX0_isNear_5 rfl (lv_at hl 0 rfl) ?_
    refine lv_iconst (v := 1) hx hb dX0_isNear_6 (by decide) ?_
    refine lv_iadd hx hb dX0_isNear_7 ?_
    obtain ⟨h1, h2⟩ := h
    refine lv_icmp_ne (tgt := 15) hx hb dX0_isNear_8 (by decide) (fun c1 => ?_) (fun c1 => ?_)
    · have h := h1 c1
      refine lv_iconst (v := 0) hx hb dX0_isNear_15 (by decide) ?_
      exact C_isNear_a16 C h (lv_sub hl [] rfl) w
    · have h := h2 c1
      exact C_isNear_a11 C h (lv_sub hl [] rfl) w
def C_isNear_VC (x0 : Int32) (x1 : Int32) (S : CS) (post : Int32 → CS → Prop) : Prop := C_isNear_w0 post x0 x1 S
theorem C_isNear_ok {x0 : Int32} {x1 : Int32} {S : CS} {post : Int32 → CS → Prop} (h : C_isNear_VC x0 x1 S post) : C_isNear x0 x1 S post := by
  intro l D dA o sz
  refine cr_start (fun A => va_Qi post (cB D dA o A) A) rfl (Nat.le_of_ble_eq_true rfl) (by decide) ?_
  intro p e s m args below meth c ls A C w hl
  have hl : lv_has ls 2 [(0, .int x0), (1, .int x1)] := hl
  exact C_isNear_a0 C h (lv_sub hl [0, 1] rfl) w

/-! ThirdSheets.cutOf(IIII)I -/
def C_cutOf_w84 (post : Int32 → CS → Prop) (v0 : Int32) (v1 : Int32) (S : CS) : Prop :=
  post (v1 + v0) S
set_option maxHeartbeats 4000000 in
set_option maxRecDepth 100000 in
theorem C_cutOf_a84 {p : Program} {l : Launch} {e : Env} {s : State} {m : MethodId} {args : Array Value} {below : List Frame} {meth : Method} {c : Code} {D : va_G} {dA : Nat → ClassId} {o : Nat → Nat} {A : Nat → Prop} {post : Int32 → CS → Prop} (C : cC RX0 p m c cX0_cutOf 7 s args meth (Option.some Jvm.ClassFile.FieldType.int) A) {v0 : Int32} {v1 : Int32} {S : CS} (h : C_cutOf_w84 post v0 v1 S) {H : Heap} {locs : List Loc} {ls : Array Slot} (hl : lv_has ls 7 [(0, .ref (o 0))]) (w : cw D dA o A s S H locs) : W p l e (rC_cutOf) s m args below meth c H locs 0 0 (cQi below args s D dA o A (rC_cutOf) post) (F0 m 84 ls [.int v0, .int v1]) := by
  unfold C_cutOf_w84 at h
  obtain ⟨⟨hx, hb, hml, hown, hts⟩, hr, hlk, hA⟩ := id C
  refine lv_iadd hx hb dX0_cutOf_84 ?_
  exact cr_iret C w h (Nat.le_of_ble_eq_true rfl) (Nat.le_of_ble_eq_true rfl) dX0_cutOf_85
def C_cutOf_w0 (post : Int32 → CS → Prop) (x1 : Int32) (x2 : Int32) (x3 : Int32) (x4 : Int32) (S : CS) : Prop :=
  C_threes x1 x3 S (fun (r1 : Int32) (S1 : CS) => ((r1 ≤ x4 → C_kindOf x3 x2 S1 (fun (r2 : Int32) (S2 : CS) => C_threes x1 x3 S2 (fun (r3 : Int32) (S3 : CS) => (vp_in ((((7 : Int32) * x1) + (4 : Int32)) + r2) 22 ∧ C_isNear r2 x3 S3 (fun (r4 : Int32) (S4 : CS) => ((r4 = 0 → C_fours x1 r2 S4 (fun (r5 : Int32) (S5 : CS) => C_cutOf_w84 post ((r5 - (1 : Int32)) - (x4 - r3)) (kI S3 14 (((((7 : Int32) * x1) + (4 : Int32)) + r2)).toNatClampNeg) S5)) ∧ (¬ r4 = 0 → C_cutOf_w84 post (x4 - r3) (kI S3 14 (((((7 : Int32) * x1) + (4 : Int32)) + r2)).toNatClampNeg) S4))))))) ∧ (¬ r1 ≤ x4 → (vp_in (((7 : Int32) * x1) + x3) 22 ∧ post ((kI S1 14 ((((7 : Int32) * x1) + x3)).toNatClampNeg) + x4) S1))))
set_option maxHeartbeats 4000000 in
set_option maxRecDepth 100000 in
theorem C_cutOf_a0 {p : Program} {l : Launch} {e : Env} {s : State} {m : MethodId} {args : Array Value} {below : List Frame} {meth : Method} {c : Code} {D : va_G} {dA : Nat → ClassId} {o : Nat → Nat} {A : Nat → Prop} {post : Int32 → CS → Prop} (C : cC RX0 p m c cX0_cutOf 7 s args meth (Option.some Jvm.ClassFile.FieldType.int) A) {x1 : Int32} {x2 : Int32} {x3 : Int32} {x4 : Int32} {S : CS} (h : C_cutOf_w0 post x1 x2 x3 x4 S) {H : Heap} {locs : List Loc} {ls : Array Slot} (hl : lv_has ls 7 [(0, .ref (o 0)), (1, .int x1), (2, .int x2), (3, .int x3), (4, .int x4)]) (w : cw D dA o A s S H locs) : W p l e (rC_cutOf) s m args below meth c H locs 0 0 (cQi below args s D dA o A (rC_cutOf) post) (F0 m 0 ls []) := by
  unfold C_cutOf_w0 at h
  obtain ⟨⟨hx, hb, hml, hown, hts⟩, hr, hlk, hA⟩ := id C
  refine lv_iload hx hb dX0_cutOf_0 (lv_at hl 4 rfl) ?_
  refine lv_aload_n hx hb dX0_cutOf_2 rfl (lv_at hl 0 rfl) ?_
  refine lv_iload_n hx hb dX0_cutOf_3 rfl (lv_at hl 1 rfl) ?_
  refine lv_iload_n hx hb dX0_cutOf_4 rfl (lv_at hl 3 rfl) ?_
  refine cr_callVI (rest := [.int _]) (b := (fun o => o 0)) C w h (recv0 w) (cwV 2 hts (lw_V q506 q508 qs23 q82 q509) rfl rfl rfl C_threes_d ⟨Nat.le_of_ble_eq_true rfl, Nat.le_of_ble_eq_true rfl⟩) rfl hl.1 rfl (Nat.le_of_ble_eq_true rfl) ⟨Nat.le_of_ble_eq_true rfl, Nat.le_of_ble_eq_true rfl⟩ dX0_cutOf_5 (fun r1 S1 H locs h w => ?_)
  obtain ⟨h1, h2⟩ := h
  refine lv_icmp_ge (tgt := 26) hx hb dX0_cutOf_8 (by decide) (fun c1 => ?_) (fun c1 => ?_)
  · have h := h1 c1
    refine lv_iload_n hx hb dX0_cutOf_26 rfl (lv_at hl 3 rfl) ?_
    refine lv_iload_n hx hb dX0_cutOf_27 rfl (lv_at hl 2 rfl) ?_
    refine cr_callSI (rest := []) C w h (va_cwS 2 hts (lw_S q453 q454 q82 q455) rfl rfl rfl C_kindOf_d ⟨Nat.le_of_ble_eq_true rfl, Nat.le_of_ble_eq_true rfl⟩) rfl hl.1 rfl (Nat.le_of_ble_eq_true rfl) ⟨Nat.le_of_ble_eq_true rfl, Nat.le_of_ble_eq_true rfl⟩ dX0_cutOf_28 (fun r2 S2 H locs h w => ?_)
    refine lv_istore (lv' := [(5, .int _), (0, .ref _), (1, .int _), (2, .int _), (3, .int _), (4, .int _)]) hx hb dX0_cutOf_31 hl (by decide) rfl (fun ls hl => ?_)
    refine lv_iload hx hb dX0_cutOf_33 (lv_at hl 5 rfl) ?_
    refine lv_aload_n hx hb dX0_cutOf_35 rfl (lv_at hl 1 rfl) ?_
    refine lv_iload_n hx hb dX0_cutOf_36 rfl (lv_at hl 2 rfl) ?_
    refine lv_iload_n hx hb dX0_cutOf_37 rfl (lv_at hl 4 rfl) ?_
    refine cr_callVI (rest := [.int _]) (b := (fun o => o 0)) C w h (recv0 w) (cwV 2 hts (lw_V q506 q508 qs23 q82 q509) rfl rfl rfl C_threes_d ⟨Nat.le_of_ble_eq_true rfl, Nat.le_of_ble_eq_true rfl⟩) rfl hl.1 rfl (Nat.le_of_ble_eq_true rfl) ⟨Nat.le_of_ble_eq_true rfl, Nat.le_of_ble_eq_true rfl⟩ dX0_cutOf_38 (fun r3 S3 H locs h w => ?_)
    refine lv_isub hx hb dX0_cutOf_41 ?_
    refine lv_istore (lv' := [(6, .int _), (5, .int _), (0, .ref _), (1, .int _), (2, .int _), (3, .int _), (4, .int _)]) hx hb dX0_cutOf_42 hl (by decide) rfl (fun ls hl => ?_)
    refine lv_aload_n hx hb dX0_cutOf_44 rfl (lv_at hl 2 rfl) ?_
    refine cr_get C w 0 rfl rfl in_X0 14 (by decide) q178 rfl rfl dX0_cutOf_45 ?_
    refine lv_bipush (v := 7) hx hb dX0_cutOf_48 (by decide) ?_
    refine lv_iload_n hx hb dX0_cutOf_50 rfl (lv_at hl 3 rfl) ?_
    refine lv_imul hx hb dX0_cutOf_51 ?_
    refine lv_iconst (v := 4) hx hb dX0_cutOf_52 (by decide) ?_
    refine lv_iadd hx hb dX0_cutOf_53 ?_
    refine lv_iload hx hb dX0_cutOf_54 (lv_at hl 1 rfl) ?_
    refine lv_iadd hx hb dX0_cutOf_56 ?_
    obtain ⟨hi, h⟩ := h
    refine cr_iald C w 9 rfl hi dX0_cutOf_57 ?_
    refine lv_iload hx hb dX0_cutOf_58 (lv_at hl 1 rfl) ?_
    refine lv_iload_n hx hb dX0_cutOf_60 rfl (lv_at hl 5 rfl) ?_
    refine cr_callSI (rest := [.int _]) C w h (va_cwS 2 hts (lw_S q551 q552 q82 q553) rfl rfl rfl C_isNear_d ⟨Nat.le_of_ble_eq_true rfl, Nat.le_of_ble_eq_true rfl⟩) rfl hl.1 rfl (Nat.le_of_ble_eq_true rfl) ⟨Nat.le_of_ble_eq_true rfl, Nat.le_of_ble_eq_true rfl⟩ dX0_cutOf_61 (fun r4 S4 H locs h w => ?_)
    obtain ⟨h1, h2⟩ := h
    refine lv_if_eq (tgt := 72) hx hb dX0_cutOf_64 (by decide) (fun c1 => ?_) (fun c1 => ?_)
    · have h := h1 c1
      refine lv_aload_n hx hb dX0_cutOf_72 rfl (lv_at hl 2 rfl) ?_
      refine lv_iload_n hx hb dX0_cutOf_73 rfl (lv_at hl 3 rfl) ?_
      refine lv_iload hx hb dX0_cutOf_74 (lv_at hl 1 rfl) ?_
      refine cr_callVI (rest := [.int _]) (b := (fun o => o 0)) C w h (recv0 w) (cwV 2 hts (lw_V q510 q512 qs24 q82 q513) rfl rfl rfl C_fours_d ⟨Nat.le_of_ble_eq_true rfl, Nat.le_of_ble_eq_true rfl⟩) rfl hl.1 rfl (Nat.le_of_ble_eq_true rfl) ⟨Nat.le_of_ble_eq_true rfl, Nat.le_of_ble_eq_true rfl⟩ dX0_cutOf_76 (fun r5 S5 H locs h w => ?_)
      refine lv_iconst (v := 1) hx hb dX0_cutOf_79 (by decide) ?_
      refine lv_isub hx hb dX0_cutOf_80 ?_
      refine lv_iload hx hb dX0_cutOf_81 (lv_at hl 0 rfl) ?_
      refine lv_isub hx hb dX0_cutOf_83 ?_
      exact C_cutOf_a84 C h (lv_sub hl [2] rfl) w
    · have h := h2 c1
      refine lv_iload hx hb dX0_cutOf_67 (lv_at hl 0 rfl) ?_
      refine lv_goto (tgt := 84) hx hb dX0_cutOf_69 (by decide) ?_
      exact C_cutOf_a84 C h (lv_sub hl [2] rfl) w
  · have h := h2 c1
    refine lv_aload_n hx hb dX0_cutOf_11 rfl (lv_at hl 0 rfl) ?_
    refine cr_get C w 0 rfl rfl in_X0 14 (by decide) q178 rfl rfl dX0_cutOf_12 ?_
    refine lv_bipush (v := 7) hx hb dX0_cutOf_15 (by decide) ?_
    refine lv_iload_n hx hb dX0_cutOf_17 rfl (lv_at hl 1 rfl) ?_
    refine lv_imul hx hb dX0_cutOf_18 ?_
    refine lv_iload_n hx hb dX0_cutOf_19 rfl (lv_at hl 3 rfl) ?_
    refine lv_iadd hx hb dX0_cutOf_20 ?_
    obtain ⟨hi, h⟩ := h
    refine cr_iald C w 9 rfl hi dX0_cutOf_21 ?_
    refine lv_iload hx hb dX0_cutOf_22 (lv_at hl 4 rfl) ?_
    refine lv_iadd hx hb dX0_cutOf_24 ?_
    exact cr_iret C w h (Nat.le_of_ble_eq_true rfl) (Nat.le_of_ble_eq_true rfl) dX0_cutOf_25
def C_cutOf_VC (x1 : Int32) (x2 : Int32) (x3 : Int32) (x4 : Int32) (S : CS) (post : Int32 → CS → Prop) : Prop := C_cutOf_w0 post x1 x2 x3 x4 S
theorem C_cutOf_ok {x1 : Int32} {x2 : Int32} {x3 : Int32} {x4 : Int32} {S : CS} {post : Int32 → CS → Prop} (h : C_cutOf_VC x1 x2 x3 x4 S post) : C_cutOf x1 x2 x3 x4 S post := by
  intro l D dA o sz
  refine cr_start (fun A => va_Qi post (cB D dA o A) A) rfl (Nat.le_of_ble_eq_true rfl) (by decide) ?_
  intro p e s m args below meth c ls A C w hl
  have hl : lv_has ls 7 [(0, .ref (o 0)), (1, .int x1), (2, .int x2), (3, .int x3), (4, .int x4)] := hl
  exact C_cutOf_a0 C h (lv_sub hl [0, 1, 2, 3, 4] rfl) w

/-! ThirdSheets.looks(II)I -/
def C_looks_w20 (post : Int32 → CS → Prop) (v0 : Int32) (S : CS) : Prop :=
  post v0 S
set_option maxHeartbeats 4000000 in
set_option maxRecDepth 100000 in
theorem C_looks_a20 {p : Program} {l : Launch} {e : Env} {s : State} {m : MethodId} {args : Array Value} {below : List Frame} {meth : Method} {c : Code} {D : va_G} {dA : Nat → ClassId} {o : Nat → Nat} {A : Nat → Prop} {post : Int32 → CS → Prop} (C : cC RX0 p m c cX0_looks 2 s args meth (Option.some Jvm.ClassFile.FieldType.int) A) {v0 : Int32} {S : CS} (h : C_looks_w20 post v0 S) {H : Heap} {locs : List Loc} {ls : Array Slot} (hl : lv_has ls 2 []) (w : cw D dA o A s S H locs) : W p l e (rC_looks) s m args below meth c H locs 0 0 (cQi below args s D dA o A (rC_looks) post) (F0 m 20 ls [.int v0]) := by
  unfold C_looks_w20 at h
  obtain ⟨⟨hx, hb, hml, hown, hts⟩, hr, hlk, hA⟩ := id C
  exact cr_iret C w h (Nat.le_of_ble_eq_true rfl) (Nat.le_of_ble_eq_true rfl) dX0_looks_20
def C_looks_w15 (post : Int32 → CS → Prop) (S : CS) : Prop :=
  C_looks_w20 post (1 : Int32) S
set_option maxHeartbeats 4000000 in
set_option maxRecDepth 100000 in
theorem C_looks_a15 {p : Program} {l : Launch} {e : Env} {s : State} {m : MethodId} {args : Array Value} {below : List Frame} {meth : Method} {c : Code} {D : va_G} {dA : Nat → ClassId} {o : Nat → Nat} {A : Nat → Prop} {post : Int32 → CS → Prop} (C : cC RX0 p m c cX0_looks 2 s args meth (Option.some Jvm.ClassFile.FieldType.int) A) {S : CS} (h : C_looks_w15 post S) {H : Heap} {locs : List Loc} {ls : Array Slot} (hl : lv_has ls 2 []) (w : cw D dA o A s S H locs) : W p l e (rC_looks) s m args below meth c H locs 0 0 (cQi below args s D dA o A (rC_looks) post) (F0 m 15 ls []) := by
  unfold C_looks_w15 at h
  obtain ⟨⟨hx, hb, hml, hown, hts⟩, hr, hlk, hA⟩ := id C
  refine lv_iconst (v := 1) hx hb dX0_looks_15 (by decide) ?_
  refine lv_goto (tgt := 20) hx hb dX0_looks_16 (by decide) ?_
  exact C_looks_a20 C h (lv_sub hl [] rfl) w
def C_looks_w0 (post : Int32 → CS → Prop) (x0 : Int32) (x1 : Int32) (S : CS) : Prop :=
  ((x0 < (4 : Int32) → C_looks_w15 post S) ∧ (¬ x0 < (4 : Int32) → C_isNear (x0 - (4 : Int32)) x1 S (fun (r1 : Int32) (S1 : CS) => ((r1 = 0 → C_looks_w20 post (-1 : Int32) S1) ∧ (¬ r1 = 0 → C_looks_w15 post S1)))))
set_option maxHeartbeats 4000000 in
set_option maxRecDepth 100000 in
theorem C_looks_a0 {p : Program} {l : Launch} {e : Env} {s : State} {m : MethodId} {args : Array Value} {below : List Frame} {meth : Method} {c : Code} {D : va_G} {dA : Nat → ClassId} {o : Nat → Nat} {A : Nat → Prop} {post : Int32 → CS → Prop} (C : cC RX0 p m c cX0_looks 2 s args meth (Option.some Jvm.ClassFile.FieldType.int) A) {x0 : Int32} {x1 : Int32} {S : CS} (h : C_looks_w0 post x0 x1 S) {H : Heap} {locs : List Loc} {ls : Array Slot} (hl : lv_has ls 2 [(0, .int x0), (1, .int x1)]) (w : cw D dA o A s S H locs) : W p l e (rC_looks) s m args below meth c H locs 0 0 (cQi below args s D dA o A (rC_looks) post) (F0 m 0 ls []) := by
  unfold C_looks_w0 at h
  obtain ⟨⟨hx, hb, hml, hown, hts⟩, hr, hlk, hA⟩ := id C
  refine lv_iload_n hx hb dX0_looks_0 rfl (lv_at hl 0 rfl) ?_
  refine lv_iconst (v := 4) hx hb dX0_looks_1 (by decide) ?_
  obtain ⟨h1, h2⟩ := h
  refine lv_icmp_lt (tgt := 15) hx hb dX0_looks_2 (by decide) (fun c1 => ?_) (fun c1 => ?_)
  · have h := h1 c1
    exact C_looks_a15 C h (lv_sub hl [] rfl) w
  · have h := h2 c1
    refine lv_iload_n hx hb dX0_looks_5 rfl (lv_at hl 0 rfl) ?_
    refine lv_iconst (v := 4) hx hb dX0_looks_6 (by decide) ?_
    refine lv_isub hx hb dX0_looks_7 ?_
    refine lv_iload_n hx hb dX0_looks_8 rfl (lv_at hl 1 rfl) ?_
    refine cr_callSI (rest := []) C w h (va_cwS 2 hts (lw_S q551 q552 q82 q553) rfl rfl rfl C_isNear_d ⟨Nat.le_of_ble_eq_true rfl, Nat.le_of_ble_eq_true rfl⟩) rfl hl.1 rfl (Nat.le_of_ble_eq_true rfl) ⟨Nat.le_of_ble_eq_true rfl, Nat.le_of_ble_eq_true rfl⟩ dX0_looks_9 (fun r1 S1 H locs h w => ?_)
    obtain ⟨h1, h2⟩ := h
    refine lv_if_eq (tgt := 19) hx hb dX0_looks_12 (by decide) (fun c1 => ?_) (fun c1 => ?_)
    · have h := h1 c1
      refine lv_iconst (v := -1) hx hb dX0_looks_19 (by decide) ?_
      exact C_looks_a20 C h (lv_sub hl [] rfl) w
    · have h := h2 c1
      exact C_looks_a15 C h (lv_sub hl [] rfl) w
def C_looks_VC (x0 : Int32) (x1 : Int32) (S : CS) (post : Int32 → CS → Prop) : Prop := C_looks_w0 post x0 x1 S
theorem C_looks_ok {x0 : Int32} {x1 : Int32} {S : CS} {post : Int32 → CS → Prop} (h : C_looks_VC x0 x1 S post) : C_looks x0 x1 S post := by
  intro l D dA o sz
  refine cr_start (fun A => va_Qi post (cB D dA o A) A) rfl (Nat.le_of_ble_eq_true rfl) (by decide) ?_
  intro p e s m args below meth c ls A C w hl
  have hl : lv_has ls 2 [(0, .int x0), (1, .int x1)] := hl
  exact C_looks_a0 C h (lv_sub hl [0, 1] rfl) w

/-! ThirdSheets.kindOfCut(I)I -/
def C_kindOfCut_w2 (post : Int32 → CS → Prop) (T2 : Int32 → Int32 → CS → Prop) (x1 : Int32) (x2 : Int32) (S : CS) : Prop :=
  (vp_in (x2 + (1 : Int32)) 22 ∧ ((x1 < (kI S 14 ((x2 + (1 : Int32))).toNatClampNeg) → post x2 S) ∧ (¬ x1 < (kI S 14 ((x2 + (1 : Int32))).toNatClampNeg) → T2 x1 (x2 + (1 : Int32)) S)))
set_option maxHeartbeats 4000000 in
set_option maxRecDepth 100000 in
theorem C_kindOfCut_a2 {p : Program} {l : Launch} {e : Env} {s : State} {m : MethodId} {args : Array Value} {below : List Frame} {meth : Method} {c : Code} {D : va_G} {dA : Nat → ClassId} {o : Nat → Nat} {A : Nat → Prop} {post : Int32 → CS → Prop} {T2 : Int32 → Int32 → CS → Prop} (C : cC RX0 p m c cX0_kindOfCut 3 s args meth (Option.some Jvm.ClassFile.FieldType.int) A) (hT2 : ∀ (x1 : Int32) (x2 : Int32) (S : CS), T2 x1 x2 S → ∀ (H : Heap) (locs : List Loc) (ls : Array Slot), lv_has ls 3 [(0, .ref (o 0)), (1, .int x1), (2, .int x2)] → cw D dA o A s S H locs → W p l e (rC_kindOfCut) s m args below meth c H locs 0 0 (cQi below args s D dA o A (rC_kindOfCut) post) (F0 m 2 ls [])) {x1 : Int32} {x2 : Int32} {S : CS} (h : C_kindOfCut_w2 post T2 x1 x2 S) {H : Heap} {locs : List Loc} {ls : Array Slot} (hl : lv_has ls 3 [(0, .ref (o 0)), (1, .int x1), (2, .int x2)]) (w : cw D dA o A s S H locs) : W p l e (rC_kindOfCut) s m args below meth c H locs 0 0 (cQi below args s D dA o A (rC_kindOfCut) post) (F0 m 2 ls []) := by
  unfold C_kindOfCut_w2 at h
  obtain ⟨⟨hx, hb, hml, hown, hts⟩, hr, hlk, hA⟩ := id C
  refine lv_aload_n hx hb dX0_kindOfCut_2 rfl (lv_at hl 0 rfl) ?_
  refine cr_get C w 0 rfl rfl in_X0 14 (by decide) q178 rfl rfl dX0_kindOfCut_3 ?_
  refine lv_iload_n hx hb dX0_kindOfCut_6 rfl (lv_at hl 2 rfl) ?_
  refine lv_iconst (v := 1) hx hb dX0_kindOfCut_7 (by decide) ?_
  refine lv_iadd hx hb dX0_kindOfCut_8 ?_
  obtain ⟨hi, h⟩ := h
  refine cr_iald C w 9 rfl hi dX0_kindOfCut_9 ?_
  refine lv_iload_n hx hb dX0_kindOfCut_10 rfl (lv_at hl 1 rfl) ?_
  obtain ⟨h1, h2⟩ := h
  refine lv_icmp_gt (tgt := 20) hx hb dX0_kindOfCut_11 (by decide) (fun c1 => ?_) (fun c1 => ?_)
  · have h := h1 c1
    refine lv_iload_n hx hb dX0_kindOfCut_20 rfl (lv_at hl 2 rfl) ?_
    exact cr_iret C w h (Nat.le_of_ble_eq_true rfl) (Nat.le_of_ble_eq_true rfl) dX0_kindOfCut_21
  · have h := h2 c1
    refine lv_iinc (v := _ + (1 : Int32)) (lv' := [(2, .int _), (0, .ref _), (1, .int _)]) hx hb dX0_kindOfCut_14 hl (k := 2) rfl rfl (by decide) rfl (fun ls hl => ?_)
    refine lv_goto (tgt := 2) hx hb dX0_kindOfCut_17 (by decide) ?_
    exact hT2 _ _ _ h _ _ _ (lv_sub hl [1, 2, 0] rfl) w
def C_kindOfCut_w0 (post : Int32 → CS → Prop) (T2 : Int32 → Int32 → CS → Prop) (x1 : Int32) (S : CS) : Prop :=
  T2 x1 (0 : Int32) S
set_option maxHeartbeats 4000000 in
set_option maxRecDepth 100000 in
theorem C_kindOfCut_a0 {p : Program} {l : Launch} {e : Env} {s : State} {m : MethodId} {args : Array Value} {below : List Frame} {meth : Method} {c : Code} {D : va_G} {dA : Nat → ClassId} {o : Nat → Nat} {A : Nat → Prop} {post : Int32 → CS → Prop} {T2 : Int32 → Int32 → CS → Prop} (C : cC RX0 p m c cX0_kindOfCut 3 s args meth (Option.some Jvm.ClassFile.FieldType.int) A) (hT2 : ∀ (x1 : Int32) (x2 : Int32) (S : CS), T2 x1 x2 S → ∀ (H : Heap) (locs : List Loc) (ls : Array Slot), lv_has ls 3 [(0, .ref (o 0)), (1, .int x1), (2, .int x2)] → cw D dA o A s S H locs → W p l e (rC_kindOfCut) s m args below meth c H locs 0 0 (cQi below args s D dA o A (rC_kindOfCut) post) (F0 m 2 ls [])) {x1 : Int32} {S : CS} (h : C_kindOfCut_w0 post T2 x1 S) {H : Heap} {locs : List Loc} {ls : Array Slot} (hl : lv_has ls 3 [(0, .ref (o 0)), (1, .int x1)]) (w : cw D dA o A s S H locs) : W p l e (rC_kindOfCut) s m args below meth c H locs 0 0 (cQi below args s D dA o A (rC_kindOfCut) post) (F0 m 0 ls []) := by
  unfold C_kindOfCut_w0 at h
  obtain ⟨⟨hx, hb, hml, hown, hts⟩, hr, hlk, hA⟩ := id C
  refine lv_iconst (v := 0) hx hb dX0_kindOfCut_0 (by decide) ?_
  refine lv_istore_n (lv' := [(2, .int _), (0, .ref _), (1, .int _)]) hx hb dX0_kindOfCut_1 rfl hl (by decide) rfl (fun ls hl => ?_)
  exact hT2 _ _ _ h _ _ _ (lv_sub hl [1, 2, 0] rfl) w
def C_kindOfCut_VC (x1 : Int32) (S : CS) (post : Int32 → CS → Prop) : Prop := ∀ (T2 : Int32 → Int32 → CS → Prop), (∀ (x1 : Int32) (x2 : Int32) (S : CS), C_kindOfCut_w2 post T2 x1 x2 S → T2 x1 x2 S) → C_kindOfCut_w0 post T2 x1 S
theorem C_kindOfCut_ok {x1 : Int32} {S : CS} {post : Int32 → CS → Prop} (h : C_kindOfCut_VC x1 S post) : C_kindOfCut x1 S post := by
  intro l D dA o sz
  refine cr_start (fun A => va_Qi post (cB D dA o A) A) rfl (Nat.le_of_ble_eq_true rfl) (by decide) ?_
  intro p e s m args below meth c ls A C w hl
  have hl : lv_has ls 3 [(0, .ref (o 0)), (1, .int x1)] := hl
  have h := h (fun (x1 : Int32) (x2 : Int32) S => ∀ (H : Heap) (locs : List Loc) (ls : Array Slot), lv_has ls 3 [(0, .ref (o 0)), (1, .int x1), (2, .int x2)] → cw D dA o A s S H locs → W p l e (rC_kindOfCut) s m args below meth c H locs 0 0 (cQi below args s D dA o A (rC_kindOfCut) post) (F0 m 2 ls [])) (fun _ _ S h H locs ls hl w => C_kindOfCut_a2 C (fun _ _ _ h => h) h hl w)
  exact C_kindOfCut_a0 C (fun _ _ _ h => h) h (lv_sub hl [0, 1] rfl) w

/-! ThirdSheets.beyond(IIII)I -/
def C_beyond_w13 (post : Int32 → CS → Prop) (T13 : Int32 → Int32 → Int32 → Int32 → Int32 → Int32 → CS → Prop) (x1 : Int32) (x2 : Int32) (x3 : Int32) (x4 : Int32) (x5 : Int32) (x6 : Int32) (S : CS) : Prop :=
  ((x5 ≤ x6 → post (-1 : Int32) S) ∧ (¬ x5 ≤ x6 → C_cutOf x2 x3 x4 x6 S (fun (r1 : Int32) (S1 : CS) => ((¬ r1 = x1 → T13 x1 x2 x3 x4 x5 (x6 + (1 : Int32)) S1) ∧ (r1 = x1 → (vp_in x2 3 ∧ (vp_in x3 4 ∧ (∃ g3 : Nat, (kGl S1 ((x2).toNatClampNeg) (x3).toNatClampNeg) = some g3 ∧ pk S1 g3 0 ∧ (vp_in x2 3 ∧ (vp_in x3 4 ∧ (∃ g5 : Nat, (kGl S1 ((x2).toNatClampNeg) (x3).toNatClampNeg) = some g5 ∧ pk S1 g5 0 ∧ (vp_in x2 3 ∧ (vp_in x3 4 ∧ (∃ g7 : Nat, (kGl S1 ((x2).toNatClampNeg) (x3).toNatClampNeg) = some g7 ∧ pk S1 g7 0 ∧ (pk S1 (kG S1 g7).2.2 1 ∧ vp_in x4 (kN S1 (kG S1 g7).2.2) ∧ C_cutOf (kG S1 g3).1 (kG S1 g5).2.1 (kT S1 (kG S1 g7).2.2 (x4).toNatClampNeg) x6 S1 (fun (r8 : Int32) (S8 : CS) => post r8 S8))))))))))))))))
set_option maxHeartbeats 4000000 in
set_option maxRecDepth 100000 in
theorem C_beyond_a13 {p : Program} {l : Launch} {e : Env} {s : State} {m : MethodId} {args : Array Value} {below : List Frame} {meth : Method} {c : Code} {D : va_G} {dA : Nat → ClassId} {o : Nat → Nat} {A : Nat → Prop} {post : Int32 → CS → Prop} {T13 : Int32 → Int32 → Int32 → Int32 → Int32 → Int32 → CS → Prop} (C : cC RX0 p m c cX0_beyond 7 s args meth (Option.some Jvm.ClassFile.FieldType.int) A) (hT13 : ∀ (x1 : Int32) (x2 : Int32) (x3 : Int32) (x4 : Int32) (x5 : Int32) (x6 : Int32) (S : CS), T13 x1 x2 x3 x4 x5 x6 S → ∀ (H : Heap) (locs : List Loc) (ls : Array Slot), lv_has ls 7 [(0, .ref (o 0)), (1, .int x1), (2, .int x2), (3, .int x3), (4, .int x4), (5, .int x5), (6, .int x6)] → cw D dA o A s S H locs → W p l e (rC_beyond) s m args below meth c H locs 0 0 (cQi below args s D dA o A (rC_beyond) post) (F0 m 13 ls [])) {x1 : Int32} {x2 : Int32} {x3 : Int32} {x4 : Int32} {x5 : Int32} {x6 : Int32} {S : CS} (h : C_beyond_w13 post T13 x1 x2 x3 x4 x5 x6 S) {H : Heap} {locs : List Loc} {ls : Array Slot} (hl : lv_has ls 7 [(0, .ref (o 0)), (1, .int x1), (2, .int x2), (3, .int x3), (4, .int x4), (5, .int x5), (6, .int x6)]) (w : cw D dA o A s S H locs) : W p l e (rC_beyond) s m args below meth c H locs 0 0 (cQi below args s D dA o A (rC_beyond) post) (F0 m 13 ls []) := by
  unfold C_beyond_w13 at h
  obtain ⟨⟨hx, hb, hml, hown, hts⟩, hr, hlk, hA⟩ := id C
  refine lv_iload hx hb dX0_beyond_13 (lv_at hl 6 rfl) ?_
  refine lv_iload hx hb dX0_beyond_15 (lv_at hl 5 rfl) ?_
  obtain ⟨h1, h2⟩ := h
  refine lv_icmp_ge (tgt := 83) hx hb dX0_beyond_17 (by decide) (fun c1 => ?_) (fun c1 => ?_)
  · have h := h1 c1
    refine lv_iconst (v := -1) hx hb dX0_beyond_83 (by decide) ?_
    exact cr_iret C w h (Nat.le_of_ble_eq_true rfl) (Nat.le_of_ble_eq_true rfl) dX0_beyond_84
  · have h := h2 c1
    refine lv_aload_n hx hb dX0_beyond_20 rfl (lv_at hl 0 rfl) ?_
    refine lv_iload_n hx hb dX0_beyond_21 rfl (lv_at hl 2 rfl) ?_
    refine lv_iload_n hx hb dX0_beyond_22 rfl (lv_at hl 3 rfl) ?_
    refine lv_iload hx hb dX0_beyond_23 (lv_at hl 4 rfl) ?_
    refine lv_iload hx hb dX0_beyond_25 (lv_at hl 6 rfl) ?_
    refine cr_callVI (rest := []) (b := (fun o => o 0)) C w h (recv0 w) (cwV 4 hts (lw_V q547 q549 qs31 q82 q550) rfl rfl rfl C_cutOf_d ⟨Nat.le_of_ble_eq_true rfl, Nat.le_of_ble_eq_true rfl⟩) rfl hl.1 rfl (Nat.le_of_ble_eq_true rfl) ⟨Nat.le_of_ble_eq_true rfl, Nat.le_of_ble_eq_true rfl⟩ dX0_beyond_27 (fun r1 S1 H locs h w => ?_)
    refine lv_iload_n hx hb dX0_beyond_30 rfl (lv_at hl 1 rfl) ?_
    obtain ⟨h1, h2⟩ := h
    refine lv_icmp_ne (tgt := 77) hx hb dX0_beyond_31 (by decide) (fun c1 => ?_) (fun c1 => ?_)
    · have h := h1 c1
      refine lv_iinc (v := _ + (1 : Int32)) (lv' := [(6, .int _), (0, .ref _), (1, .int _), (2, .int _), (3, .int _), (4, .int _), (5, .int _)]) hx hb dX0_beyond_77 hl (k := 6) rfl rfl (by decide) rfl (fun ls hl => ?_)
      refine lv_goto (tgt := 13) hx hb dX0_beyond_80 (by decide) ?_
      exact hT13 _ _ _ _ _ _ _ h _ _ _ (lv_sub hl [1, 2, 3, 4, 5, 6, 0] rfl) w
    · have h := h2 c1
      refine lv_aload_n hx hb dX0_beyond_34 rfl (lv_at hl 0 rfl) ?_
      refine lv_aload_n hx hb dX0_beyond_35 rfl (lv_at hl 0 rfl) ?_
      refine cr_get C w 0 rfl rfl in_X0 0 (by decide) q162 rfl rfl dX0_beyond_36 ?_
      refine lv_iload_n hx hb dX0_beyond_39 rfl (lv_at hl 2 rfl) ?_
      obtain ⟨hi, h⟩ := h
      have hj2 := vp_lt hi
      refine cr_gout C w hi dX0_beyond_40 ?_
      refine lv_iload_n hx hb dX0_beyond_41 rfl (lv_at hl 3 rfl) ?_
      obtain ⟨hi, h⟩ := h
      refine cr_gin C w hj2 hi dX0_beyond_42 ?_
      obtain ⟨g3, hg, hpk, h⟩ := h
      refine cr_opt hg ?_
      refine cr_getGp C w hpk nwF_RX0_116 dX0_beyond_43 ?_
      refine lv_aload_n hx hb dX0_beyond_46 rfl (lv_at hl 0 rfl) ?_
      refine cr_get C w 0 rfl rfl in_X0 0 (by decide) q162 rfl rfl dX0_beyond_47 ?_
      refine lv_iload_n hx hb dX0_beyond_50 rfl (lv_at hl 2 rfl) ?_
      obtain ⟨hi, h⟩ := h
      have hj4 := vp_lt hi
      refine cr_gout C w hi dX0_beyond_51 ?_
      refine lv_iload_n hx hb dX0_beyond_52 rfl (lv_at hl 3 rfl) ?_
      obtain ⟨hi, h⟩ := h
      refine cr_gin C w hj4 hi dX0_beyond_53 ?_
      obtain ⟨g5, hg, hpk, h⟩ := h
      refine cr_opt hg ?_
      refine cr_getGs C w hpk nwF_RX0_119 dX0_beyond_54 ?_
      refine lv_aload_n hx hb dX0_beyond_57 rfl (lv_at hl 0 rfl) ?_
      refine cr_get C w 0 rfl rfl in_X0 0 (by decide) q162 rfl rfl dX0_beyond_58 ?_
      refine lv_iload_n hx hb dX0_beyond_61 rfl (lv_at hl 2 rfl) ?_
      obtain ⟨hi, h⟩ := h
      have hj6 := vp_lt hi
      refine cr_gout C w hi dX0_beyond_62 ?_
      refine lv_iload_n hx hb dX0_beyond_63 rfl (lv_at hl 3 rfl) ?_
      obtain ⟨hi, h⟩ := h
      refine cr_gin C w hj6 hi dX0_beyond_64 ?_
      obtain ⟨g7, hg, hpk, h⟩ := h
      refine cr_opt hg ?_
      refine cr_getGt C w hpk nwF_RX0_175 dX0_beyond_65 ?_
      refine lv_iload hx hb dX0_beyond_68 (lv_at hl 4 rfl) ?_
      obtain ⟨hpk, hi, h⟩ := h
      refine cr_tald C w hpk hi dX0_beyond_70 ?_
      refine lv_iload hx hb dX0_beyond_71 (lv_at hl 6 rfl) ?_
      refine cr_callVI (rest := []) (b := (fun o => o 0)) C w h (recv0 w) (cwV 4 hts (lw_V q547 q549 qs31 q82 q550) rfl rfl rfl C_cutOf_d ⟨Nat.le_of_ble_eq_true rfl, Nat.le_of_ble_eq_true rfl⟩) rfl hl.1 rfl (Nat.le_of_ble_eq_true rfl) ⟨Nat.le_of_ble_eq_true rfl, Nat.le_of_ble_eq_true rfl⟩ dX0_beyond_73 (fun r8 S8 H locs h w => ?_)
      exact cr_iret C w h (Nat.le_of_ble_eq_true rfl) (Nat.le_of_ble_eq_true rfl) dX0_beyond_76
def C_beyond_w0 (post : Int32 → CS → Prop) (T13 : Int32 → Int32 → Int32 → Int32 → Int32 → Int32 → CS → Prop) (x1 : Int32) (x2 : Int32) (x3 : Int32) (x4 : Int32) (S : CS) : Prop :=
  C_arcs x2 x3 x4 S (fun (r1 : Int32) (S1 : CS) => T13 x1 x2 x3 x4 r1 (0 : Int32) S1)
set_option maxHeartbeats 4000000 in
set_option maxRecDepth 100000 in
theorem C_beyond_a0 {p : Program} {l : Launch} {e : Env} {s : State} {m : MethodId} {args : Array Value} {below : List Frame} {meth : Method} {c : Code} {D : va_G} {dA : Nat → ClassId} {o : Nat → Nat} {A : Nat → Prop} {post : Int32 → CS → Prop} {T13 : Int32 → Int32 → Int32 → Int32 → Int32 → Int32 → CS → Prop} (C : cC RX0 p m c cX0_beyond 7 s args meth (Option.some Jvm.ClassFile.FieldType.int) A) (hT13 : ∀ (x1 : Int32) (x2 : Int32) (x3 : Int32) (x4 : Int32) (x5 : Int32) (x6 : Int32) (S : CS), T13 x1 x2 x3 x4 x5 x6 S → ∀ (H : Heap) (locs : List Loc) (ls : Array Slot), lv_has ls 7 [(0, .ref (o 0)), (1, .int x1), (2, .int x2), (3, .int x3), (4, .int x4), (5, .int x5), (6, .int x6)] → cw D dA o A s S H locs → W p l e (rC_beyond) s m args below meth c H locs 0 0 (cQi below args s D dA o A (rC_beyond) post) (F0 m 13 ls [])) {x1 : Int32} {x2 : Int32} {x3 : Int32} {x4 : Int32} {S : CS} (h : C_beyond_w0 post T13 x1 x2 x3 x4 S) {H : Heap} {locs : List Loc} {ls : Array Slot} (hl : lv_has ls 7 [(0, .ref (o 0)), (1, .int x1), (2, .int x2), (3, .int x3), (4, .int x4)]) (w : cw D dA o A s S H locs) : W p l e (rC_beyond) s m args below meth c H locs 0 0 (cQi below args s D dA o A (rC_beyond) post) (F0 m 0 ls []) := by
  unfold C_beyond_w0 at h
  obtain ⟨⟨hx, hb, hml, hown, hts⟩, hr, hlk, hA⟩ := id C
  refine lv_aload_n hx hb dX0_beyond_0 rfl (lv_at hl 0 rfl) ?_
  refine lv_iload_n hx hb dX0_beyond_1 rfl (lv_at hl 2 rfl) ?_
  refine lv_iload_n hx hb dX0_beyond_2 rfl (lv_at hl 3 rfl) ?_
  refine lv_iload hx hb dX0_beyond_3 (lv_at hl 4 rfl) ?_
  refine cr_callVI (rest := []) (b := (fun o => o 0)) C w h (recv0 w) (cwV 3 hts (lw_V q502 q504 qs22 q82 q505) rfl rfl rfl C_arcs_d ⟨Nat.le_of_ble_eq_true rfl, Nat.le_of_ble_eq_true rfl⟩) rfl hl.1 rfl (Nat.le_of_ble_eq_true rfl) ⟨Nat.le_of_ble_eq_true rfl, Nat.le_of_ble_eq_true rfl⟩ dX0_beyond_5 (fun r1 S1 H locs h w => ?_)
  refine lv_istore (lv' := [(5, .int _), (0, .ref _), (1, .int _), (2, .int _), (3, .int _), (4, .int _)]) hx hb dX0_beyond_8 hl (by decide) rfl (fun ls hl => ?_)
  refine lv_iconst (v := 0) hx hb dX0_beyond_10 (by decide) ?_
  refine lv_istore (lv' := [(6, .int _), (5, .int _), (0, .ref _), (1, .int _), (2, .int _), (3, .int _), (4, .int _)]) hx hb dX0_beyond_11 hl (by decide) rfl (fun ls hl => ?_)
  exact hT13 _ _ _ _ _ _ _ h _ _ _ (lv_sub hl [2, 3, 4, 5, 6, 1, 0] rfl) w
def C_beyond_VC (x1 : Int32) (x2 : Int32) (x3 : Int32) (x4 : Int32) (S : CS) (post : Int32 → CS → Prop) : Prop := ∀ (T13 : Int32 → Int32 → Int32 → Int32 → Int32 → Int32 → CS → Prop), (∀ (x1 : Int32) (x2 : Int32) (x3 : Int32) (x4 : Int32) (x5 : Int32) (x6 : Int32) (S : CS), C_beyond_w13 post T13 x1 x2 x3 x4 x5 x6 S → T13 x1 x2 x3 x4 x5 x6 S) → C_beyond_w0 post T13 x1 x2 x3 x4 S
theorem C_beyond_ok {x1 : Int32} {x2 : Int32} {x3 : Int32} {x4 : Int32} {S : CS} {post : Int32 → CS → Prop} (h : C_beyond_VC x1 x2 x3 x4 S post) : C_beyond x1 x2 x3 x4 S post := by
  intro l D dA o sz
  refine cr_start (fun A => va_Qi post (cB D dA o A) A) rfl (Nat.le_of_ble_eq_true rfl) (by decide) ?_
  intro p e s m args below meth c ls A C w hl
  have hl : lv_has ls 7 [(0, .ref (o 0)), (1, .int x1), (2, .int x2), (3, .int x3), (4, .int x4)] := hl
  have h := h (fun (x1 : Int32) (x2 : Int32) (x3 : Int32) (x4 : Int32) (x5 : Int32) (x6 : Int32) S => ∀ (H : Heap) (locs : List Loc) (ls : Array Slot), lv_has ls 7 [(0, .ref (o 0)), (1, .int x1), (2, .int x2), (3, .int x3), (4, .int x4), (5, .int x5), (6, .int x6)] → cw D dA o A s S H locs → W p l e (rC_beyond) s m args below meth c H locs 0 0 (cQi below args s D dA o A (rC_beyond) post) (F0 m 13 ls [])) (fun _ _ _ _ _ _ S h H locs ls hl w => C_beyond_a13 C (fun _ _ _ _ _ _ _ h => h) h hl w)
  exact C_beyond_a0 C (fun _ _ _ _ _ _ _ h => h) h (lv_sub hl [0, 1, 2, 3, 4] rfl) w

/-! ThirdSheets.spread(II)V -/
def C_spread_w238 (post : CS → Prop) (T26 : Int32 → Int32 → Int32 → CS → Prop) (T59 : Int32 → Int32 → Int32 → Int32 → Int32 → Int32 → Int32 → CS → Prop) (T68 : Int32 → Int32 → Int32 → Int32 → Int32 → Int32 → Int32 → Int32 → CS → Prop) (x2 : Int32) (x3 : Int32) (x4 : Int32) (x5 : Int32) (x6 : Int32) (x7 : Int32) (x8 : Int32) (S : CS) : Prop :=
  T59 x2 x3 x4 x5 x6 x7 (x8 + (1 : Int32)) S
set_option maxHeartbeats 4000000 in
set_option maxRecDepth 100000 in
theorem C_spread_a238 {p : Program} {l : Launch} {e : Env} {s : State} {m : MethodId} {args : Array Value} {below : List Frame} {meth : Method} {c : Code} {D : va_G} {dA : Nat → ClassId} {o : Nat → Nat} {A : Nat → Prop} {post : CS → Prop} {T26 : Int32 → Int32 → Int32 → CS → Prop} {T59 : Int32 → Int32 → Int32 → Int32 → Int32 → Int32 → Int32 → CS → Prop} {T68 : Int32 → Int32 → Int32 → Int32 → Int32 → Int32 → Int32 → Int32 → CS → Prop} (C : cC RX0 p m c cX0_spread 12 s args meth (Option.none : Option Jvm.ClassFile.FieldType) A) (hT26 : ∀ (x2 : Int32) (x3 : Int32) (x4 : Int32) (S : CS), T26 x2 x3 x4 S → ∀ (H : Heap) (locs : List Loc) (ls : Array Slot), lv_has ls 12 [(0, .ref (o 0)), (2, .int x2), (3, .int x3), (4, .int x4)] → cw D dA o A s S H locs → W p l e (rC_spread) s m args below meth c H locs 0 0 (cQv below args s D dA o A (rC_spread) post) (F0 m 26 ls [])) (hT59 : ∀ (x2 : Int32) (x3 : Int32) (x4 : Int32) (x5 : Int32) (x6 : Int32) (x7 : Int32) (x8 : Int32) (S : CS), T59 x2 x3 x4 x5 x6 x7 x8 S → ∀ (H : Heap) (locs : List Loc) (ls : Array Slot), lv_has ls 12 [(0, .ref (o 0)), (2, .int x2), (3, .int x3), (4, .int x4), (5, .int x5), (6, .int x6), (7, .int x7), (8, .int x8)] → cw D dA o A s S H locs → W p l e (rC_spread) s m args below meth c H locs 0 0 (cQv below args s D dA o A (rC_spread) post) (F0 m 59 ls [])) (hT68 : ∀ (x2 : Int32) (x3 : Int32) (x4 : Int32) (x5 : Int32) (x6 : Int32) (x7 : Int32) (x8 : Int32) (x9 : Int32) (S : CS), T68 x2 x3 x4 x5 x6 x7 x8 x9 S → ∀ (H : Heap) (locs : List Loc) (ls : Array Slot), lv_has ls 12 [(0, .ref (o 0)), (2, .int x2), (3, .int x3), (4, .int x4), (5, .int x5), (6, .int x6), (7, .int x7), (8, .int x8), (9, .int x9)] → cw D dA o A s S H locs → W p l e (rC_spread) s m args below meth c H locs 0 0 (cQv below args s D dA o A (rC_spread) post) (F0 m 68 ls [])) {x2 : Int32} {x3 : Int32} {x4 : Int32} {x5 : Int32} {x6 : Int32} {x7 : Int32} {x8 : Int32} {S : CS} (h : C_spread_w238 post T26 T59 T68 x2 x3 x4 x5 x6 x7 x8 S) {H : Heap} {locs : List Loc} {ls : Array Slot} (hl : lv_has ls 12 [(0, .ref (o 0)), (2, .int x2), (3, .int x3), (4, .int x4), (5, .int x5), (6, .int x6), (7, .int x7), (8, .int x8)]) (w : cw D dA o A s S H locs) : W p l e (rC_spread) s m args below meth c H locs 0 0 (cQv below args s D dA o A (rC_spread) post) (F0 m 238 ls []) := by
  unfold C_spread_w238 at h
  obtain ⟨⟨hx, hb, hml, hown, hts⟩, hr, hlk, hA⟩ := id C
  refine lv_iinc (v := _ + (1 : Int32)) (lv' := [(8, .int _), (0, .ref _), (2, .int _), (3, .int _), (4, .int _), (5, .int _), (6, .int _), (7, .int _)]) hx hb dX0_spread_238 hl (k := 7) rfl rfl (by decide) rfl (fun ls hl => ?_)
  refine lv_goto (tgt := 59) hx hb dX0_spread_241 (by decide) ?_
  exact hT59 _ _ _ _ _ _ _ _ h _ _ _ (lv_sub hl [1, 2, 3, 4, 5, 6, 7, 0] rfl) w
def C_spread_w232 (post : CS → Prop) (T26 : Int32 → Int32 → Int32 → CS → Prop) (T59 : Int32 → Int32 → Int32 → Int32 → Int32 → Int32 → Int32 → CS → Prop) (T68 : Int32 → Int32 → Int32 → Int32 → Int32 → Int32 → Int32 → Int32 → CS → Prop) (x2 : Int32) (x3 : Int32) (x4 : Int32) (x5 : Int32) (x6 : Int32) (x7 : Int32) (x8 : Int32) (x9 : Int32) (S : CS) : Prop :=
  T68 x2 x3 x4 x5 x6 x7 x8 (x9 + (1 : Int32)) S
set_option maxHeartbeats 4000000 in
set_option maxRecDepth 100000 in
theorem C_spread_a232 {p : Program} {l : Launch} {e : Env} {s : State} {m : MethodId} {args : Array Value} {below : List Frame} {meth : Method} {c : Code} {D : va_G} {dA : Nat → ClassId} {o : Nat → Nat} {A : Nat → Prop} {post : CS → Prop} {T26 : Int32 → Int32 → Int32 → CS → Prop} {T59 : Int32 → Int32 → Int32 → Int32 → Int32 → Int32 → Int32 → CS → Prop} {T68 : Int32 → Int32 → Int32 → Int32 → Int32 → Int32 → Int32 → Int32 → CS → Prop} (C : cC RX0 p m c cX0_spread 12 s args meth (Option.none : Option Jvm.ClassFile.FieldType) A) (hT26 : ∀ (x2 : Int32) (x3 : Int32) (x4 : Int32) (S : CS), T26 x2 x3 x4 S → ∀ (H : Heap) (locs : List Loc) (ls : Array Slot), lv_has ls 12 [(0, .ref (o 0)), (2, .int x2), (3, .int x3), (4, .int x4)] → cw D dA o A s S H locs → W p l e (rC_spread) s m args below meth c H locs 0 0 (cQv below args s D dA o A (rC_spread) post) (F0 m 26 ls [])) (hT59 : ∀ (x2 : Int32) (x3 : Int32) (x4 : Int32) (x5 : Int32) (x6 : Int32) (x7 : Int32) (x8 : Int32) (S : CS), T59 x2 x3 x4 x5 x6 x7 x8 S → ∀ (H : Heap) (locs : List Loc) (ls : Array Slot), lv_has ls 12 [(0, .ref (o 0)), (2, .int x2), (3, .int x3), (4, .int x4), (5, .int x5), (6, .int x6), (7, .int x7), (8, .int x8)] → cw D dA o A s S H locs → W p l e (rC_spread) s m args below meth c H locs 0 0 (cQv below args s D dA o A (rC_spread) post) (F0 m 59 ls [])) (hT68 : ∀ (x2 : Int32) (x3 : Int32) (x4 : Int32) (x5 : Int32) (x6 : Int32) (x7 : Int32) (x8 : Int32) (x9 : Int32) (S : CS), T68 x2 x3 x4 x5 x6 x7 x8 x9 S → ∀ (H : Heap) (locs : List Loc) (ls : Array Slot), lv_has ls 12 [(0, .ref (o 0)), (2, .int x2), (3, .int x3), (4, .int x4), (5, .int x5), (6, .int x6), (7, .int x7), (8, .int x8), (9, .int x9)] → cw D dA o A s S H locs → W p l e (rC_spread) s m args below meth c H locs 0 0 (cQv below args s D dA o A (rC_spread) post) (F0 m 68 ls [])) {x2 : Int32} {x3 : Int32} {x4 : Int32} {x5 : Int32} {x6 : Int32} {x7 : Int32} {x8 : Int32} {x9 : Int32} {S : CS} (h : C_spread_w232 post T26 T59 T68 x2 x3 x4 x5 x6 x7 x8 x9 S) {H : Heap} {locs : List Loc} {ls : Array Slot} (hl : lv_has ls 12 [(0, .ref (o 0)), (2, .int x2), (3, .int x3), (4, .int x4), (5, .int x5), (6, .int x6), (7, .int x7), (8, .int x8), (9, .int x9)]) (w : cw D dA o A s S H locs) : W p l e (rC_spread) s m args below meth c H locs 0 0 (cQv below args s D dA o A (rC_spread) post) (F0 m 232 ls []) := by
  unfold C_spread_w232 at h
  obtain ⟨⟨hx, hb, hml, hown, hts⟩, hr, hlk, hA⟩ := id C
  refine lv_iinc (v := _ + (1 : Int32)) (lv' := [(9, .int _), (0, .ref _), (2, .int _), (3, .int _), (4, .int _), (5, .int _), (6, .int _), (7, .int _), (8, .int _)]) hx hb dX0_spread_232 hl (k := 8) rfl rfl (by decide) rfl (fun ls hl => ?_)
  refine lv_goto (tgt := 68) hx hb dX0_spread_235 (by decide) ?_
  exact hT68 _ _ _ _ _ _ _ _ _ h _ _ _ (lv_sub hl [1, 2, 3, 4, 5, 6, 7, 8, 0] rfl) w
def C_spread_w230 (post : CS → Prop) (T26 : Int32 → Int32 → Int32 → CS → Prop) (T59 : Int32 → Int32 → Int32 → Int32 → Int32 → Int32 → Int32 → CS → Prop) (T68 : Int32 → Int32 → Int32 → Int32 → Int32 → Int32 → Int32 → Int32 → CS → Prop) (v0 : Int32) (v1 : Int32) (v2 : Int32) (x2 : Int32) (x3 : Int32) (x4 : Int32) (x5 : Int32) (x6 : Int32) (x7 : Int32) (x8 : Int32) (x9 : Int32) (S : CS) : Prop :=
  (vp_in v2 400 ∧ (zok (v1 ||| v0) ∧ (fun (S1 : CS) => C_spread_w232 post T26 T59 T68 x2 x3 x4 x5 x6 x7 x8 x9 S1) (tI S 18 (v2).toNatClampNeg (v1 ||| v0))))
set_option maxHeartbeats 4000000 in
set_option maxRecDepth 100000 in
theorem C_spread_a230 {p : Program} {l : Launch} {e : Env} {s : State} {m : MethodId} {args : Array Value} {below : List Frame} {meth : Method} {c : Code} {D : va_G} {dA : Nat → ClassId} {o : Nat → Nat} {A : Nat → Prop} {post : CS → Prop} {T26 : Int32 → Int32 → Int32 → CS → Prop} {T59 : Int32 → Int32 → Int32 → Int32 → Int32 → Int32 → Int32 → CS → Prop} {T68 : Int32 → Int32 → Int32 → Int32 → Int32 → Int32 → Int32 → Int32 → CS → Prop} (C : cC RX0 p m c cX0_spread 12 s args meth (Option.none : Option Jvm.ClassFile.FieldType) A) (hT26 : ∀ (x2 : Int32) (x3 : Int32) (x4 : Int32) (S : CS), T26 x2 x3 x4 S → ∀ (H : Heap) (locs : List Loc) (ls : Array Slot), lv_has ls 12 [(0, .ref (o 0)), (2, .int x2), (3, .int x3), (4, .int x4)] → cw D dA o A s S H locs → W p l e (rC_spread) s m args below meth c H locs 0 0 (cQv below args s D dA o A (rC_spread) post) (F0 m 26 ls [])) (hT59 : ∀ (x2 : Int32) (x3 : Int32) (x4 : Int32) (x5 : Int32) (x6 : Int32) (x7 : Int32) (x8 : Int32) (S : CS), T59 x2 x3 x4 x5 x6 x7 x8 S → ∀ (H : Heap) (locs : List Loc) (ls : Array Slot), lv_has ls 12 [(0, .ref (o 0)), (2, .int x2), (3, .int x3), (4, .int x4), (5, .int x5), (6, .int x6), (7, .int x7), (8, .int x8)] → cw D dA o A s S H locs → W p l e (rC_spread) s m args below meth c H locs 0 0 (cQv below args s D dA o A (rC_spread) post) (F0 m 59 ls [])) (hT68 : ∀ (x2 : Int32) (x3 : Int32) (x4 : Int32) (x5 : Int32) (x6 : Int32) (x7 : Int32) (x8 : Int32) (x9 : Int32) (S : CS), T68 x2 x3 x4 x5 x6 x7 x8 x9 S → ∀ (H : Heap) (locs : List Loc) (ls : Array Slot), lv_has ls 12 [(0, .ref (o 0)), (2, .int x2), (3, .int x3), (4, .int x4), (5, .int x5), (6, .int x6), (7, .int x7), (8, .int x8), (9, .int x9)] → cw D dA o A s S H locs → W p l e (rC_spread) s m args below meth c H locs 0 0 (cQv below args s D dA o A (rC_spread) post) (F0 m 68 ls [])) {v0 : Int32} {v1 : Int32} {v2 : Int32} {x2 : Int32} {x3 : Int32} {x4 : Int32} {x5 : Int32} {x6 : Int32} {x7 : Int32} {x8 : Int32} {x9 : Int32} {S : CS} (h : C_spread_w230 post T26 T59 T68 v0 v1 v2 x2 x3 x4 x5 x6 x7 x8 x9 S) {H : Heap} {locs : List Loc} {ls : Array Slot} (hl : lv_has ls 12 [(0, .ref (o 0)), (2, .int x2), (3, .int x3), (4, .int x4), (5, .int x5), (6, .int x6), (7, .int x7), (8, .int x8), (9, .int x9)]) (w : cw D dA o A s S H locs) : W p l e (rC_spread) s m args below meth c H locs 0 0 (cQv below args s D dA o A (rC_spread) post) (F0 m 230 ls [.int v0, .int v1, .int v2, .ref (o 18)]) := by
  unfold C_spread_w230 at h
  obtain ⟨⟨hx, hb, hml, hown, hts⟩, hr, hlk, hA⟩ := id C
  refine lv_ior hx hb dX0_spread_230 ?_
  obtain ⟨hi, h⟩ := h
  obtain ⟨hz, h⟩ := h
  refine cr_zast C w hi (zok_v hz) dX0_spread_231 (fun H locs w => ?_)
  exact C_spread_a232 C hT26 hT59 hT68 h (lv_sub hl [0, 1, 2, 3, 4, 5, 6, 7, 8] rfl) w
def C_spread_w206 (post : CS → Prop) (T26 : Int32 → Int32 → Int32 → CS → Prop) (T59 : Int32 → Int32 → Int32 → Int32 → Int32 → Int32 → Int32 → CS → Prop) (T68 : Int32 → Int32 → Int32 → Int32 → Int32 → Int32 → Int32 → Int32 → CS → Prop) (x2 : Int32) (x3 : Int32) (x4 : Int32) (x5 : Int32) (x6 : Int32) (x7 : Int32) (x8 : Int32) (x9 : Int32) (x10 : Int32) (x11 : Int32) (S : CS) : Prop :=
  (vp_in x2 400 ∧ (vp_in x10 400 ∧ (((kI S 16 (x10).toNatClampNeg) = x11 → C_spread_w230 post T26 T59 T68 (0 : Int32) (kI S 18 (x2).toNatClampNeg) x2 x2 x3 x4 x5 x6 x7 x8 x9 S) ∧ (¬ (kI S 16 (x10).toNatClampNeg) = x11 → C_spread_w230 post T26 T59 T68 (1 : Int32) (kI S 18 (x2).toNatClampNeg) x2 x2 x3 x4 x5 x6 x7 x8 x9 S))))
set_option maxHeartbeats 4000000 in
set_option maxRecDepth 100000 in
theorem C_spread_a206 {p : Program} {l : Launch} {e : Env} {s : State} {m : MethodId} {args : Array Value} {below : List Frame} {meth : Method} {c : Code} {D : va_G} {dA : Nat → ClassId} {o : Nat → Nat} {A : Nat → Prop} {post : CS → Prop} {T26 : Int32 → Int32 → Int32 → CS → Prop} {T59 : Int32 → Int32 → Int32 → Int32 → Int32 → Int32 → Int32 → CS → Prop} {T68 : Int32 → Int32 → Int32 → Int32 → Int32 → Int32 → Int32 → Int32 → CS → Prop} (C : cC RX0 p m c cX0_spread 12 s args meth (Option.none : Option Jvm.ClassFile.FieldType) A) (hT26 : ∀ (x2 : Int32) (x3 : Int32) (x4 : Int32) (S : CS), T26 x2 x3 x4 S → ∀ (H : Heap) (locs : List Loc) (ls : Array Slot), lv_has ls 12 [(0, .ref (o 0)), (2, .int x2), (3, .int x3), (4, .int x4)] → cw D dA o A s S H locs → W p l e (rC_spread) s m args below meth c H locs 0 0 (cQv below args s D dA o A (rC_spread) post) (F0 m 26 ls [])) (hT59 : ∀ (x2 : Int32) (x3 : Int32) (x4 : Int32) (x5 : Int32) (x6 : Int32) (x7 : Int32) (x8 : Int32) (S : CS), T59 x2 x3 x4 x5 x6 x7 x8 S → ∀ (H : Heap) (locs : List Loc) (ls : Array Slot), lv_has ls 12 [(0, .ref (o 0)), (2, .int x2), (3, .int x3), (4, .int x4), (5, .int x5), (6, .int x6), (7, .int x7), (8, .int x8)] → cw D dA o A s S H locs → W p l e (rC_spread) s m args below meth c H locs 0 0 (cQv below args s D dA o A (rC_spread) post) (F0 m 59 ls [])) (hT68 : ∀ (x2 : Int32) (x3 : Int32) (x4 : Int32) (x5 : Int32) (x6 : Int32) (x7 : Int32) (x8 : Int32) (x9 : Int32) (S : CS), T68 x2 x3 x4 x5 x6 x7 x8 x9 S → ∀ (H : Heap) (locs : List Loc) (ls : Array Slot), lv_has ls 12 [(0, .ref (o 0)), (2, .int x2), (3, .int x3), (4, .int x4), (5, .int x5), (6, .int x6), (7, .int x7), (8, .int x8), (9, .int x9)] → cw D dA o A s S H locs → W p l e (rC_spread) s m args below meth c H locs 0 0 (cQv below args s D dA o A (rC_spread) post) (F0 m 68 ls [])) {x2 : Int32} {x3 : Int32} {x4 : Int32} {x5 : Int32} {x6 : Int32} {x7 : Int32} {x8 : Int32} {x9 : Int32} {x10 : Int32} {x11 : Int32} {S : CS} (h : C_spread_w206 post T26 T59 T68 x2 x3 x4 x5 x6 x7 x8 x9 x10 x11 S) {H : Heap} {locs : List Loc} {ls : Array Slot} (hl : lv_has ls 12 [(0, .ref (o 0)), (2, .int x2), (3, .int x3), (4, .int x4), (5, .int x5), (6, .int x6), (7, .int x7), (8, .int x8), (9, .int x9), (10, .int x10), (11, .int x11)]) (w : cw D dA o A s S H locs) : W p l e (rC_spread) s m args below meth c H locs 0 0 (cQv below args s D dA o A (rC_spread) post) (F0 m 206 ls []) := by
  unfold C_spread_w206 at h
  obtain ⟨⟨hx, hb, hml, hown, hts⟩, hr, hlk, hA⟩ := id C
  refine lv_aload_n hx hb dX0_spread_206 rfl (lv_at hl 0 rfl) ?_
  refine cr_get C w 0 rfl rfl in_X0 18 (by decide) q182 rfl rfl dX0_spread_207 ?_
  refine lv_iload_n hx hb dX0_spread_210 rfl (lv_at hl 1 rfl) ?_
  refine lv_dup2_11 hx hb dX0_spread_211 rfl rfl ?_
  obtain ⟨hi, h⟩ := h
  refine cr_zald C w hi dX0_spread_212 ?_
  refine lv_aload_n hx hb dX0_spread_213 rfl (lv_at hl 0 rfl) ?_
  refine cr_get C w 0 rfl rfl in_X0 16 (by decide) q180 rfl rfl dX0_spread_214 ?_
  refine lv_iload hx hb dX0_spread_217 (lv_at hl 9 rfl) ?_
  obtain ⟨hi, h⟩ := h
  refine cr_iald C w 11 rfl hi dX0_spread_219 ?_
  refine lv_iload hx hb dX0_spread_220 (lv_at hl 10 rfl) ?_
  obtain ⟨h1, h2⟩ := h
  refine lv_icmp_eq (tgt := 229) hx hb dX0_spread_222 (by decide) (fun c1 => ?_) (fun c1 => ?_)
  · have h := h1 c1
    refine lv_iconst (v := 0) hx hb dX0_spread_229 (by decide) ?_
    exact C_spread_a230 C hT26 hT59 hT68 h (lv_sub hl [0, 1, 2, 3, 4, 5, 6, 7, 8] rfl) w
  · have h := h2 c1
    refine lv_iconst (v := 1) hx hb dX0_spread_225 (by decide) ?_
    refine lv_goto (tgt := 230) hx hb dX0_spread_226 (by decide) ?_
    exact C_spread_a230 C hT26 hT59 hT68 h (lv_sub hl [0, 1, 2, 3, 4, 5, 6, 7, 8] rfl) w
def C_spread_w110 (post : CS → Prop) (T26 : Int32 → Int32 → Int32 → CS → Prop) (T59 : Int32 → Int32 → Int32 → Int32 → Int32 → Int32 → Int32 → CS → Prop) (T68 : Int32 → Int32 → Int32 → Int32 → Int32 → Int32 → Int32 → Int32 → CS → Prop) (v0 : Int32) (x2 : Int32) (x3 : Int32) (x4 : Int32) (x5 : Int32) (x6 : Int32) (x7 : Int32) (x8 : Int32) (x9 : Int32) (S : CS) : Prop :=
  ((v0 = (-1 : Int32) → C_spread_w232 post T26 T59 T68 x2 x3 x4 x5 x6 x7 x8 x9 S) ∧ (¬ v0 = (-1 : Int32) → (vp_in x5 400 ∧ C_looks (x6 - x6 / (7 : Int32) * (7 : Int32)) x9 S (fun (r1 : Int32) (S1 : CS) => C_kindOfCut v0 S1 (fun (r2 : Int32) (S2 : CS) => (vp_in x7 3 ∧ (vp_in x8 4 ∧ (∃ g4 : Nat, (kGl S2 ((x7).toNatClampNeg) (x8).toNatClampNeg) = some g4 ∧ pk S2 g4 0 ∧ (pk S2 (kG S2 g4).2.2 1 ∧ vp_in x9 (kN S2 (kG S2 g4).2.2) ∧ C_looks (r2 - r2 / (7 : Int32) * (7 : Int32)) (kT S2 (kG S2 g4).2.2 (x9).toNatClampNeg) S2 (fun (r5 : Int32) (S5 : CS) => (vp_in v0 400 ∧ ((¬ (kI S5 15 (v0).toNatClampNeg) = (-1 : Int32) → C_spread_w206 post T26 T59 T68 x2 x3 x4 x5 x6 x7 x8 x9 v0 (((kI S 16 (x5).toNatClampNeg) * r1) * r5) S5) ∧ ((kI S5 15 (v0).toNatClampNeg) = (-1 : Int32) → (vp_in v0 400 ∧ (fun (S6 : CS) => (vp_in v0 400 ∧ (fun (S7 : CS) => (vp_in x3 400 ∧ (fun (S8 : CS) => C_spread_w206 post T26 T59 T68 x2 (x3 + (1 : Int32)) x4 x5 x6 x7 x8 x9 v0 (((kI S 16 (x5).toNatClampNeg) * r1) * r5) S8) (tI S7 17 (x3).toNatClampNeg v0))) (tI S6 16 (v0).toNatClampNeg (((kI S 16 (x5).toNatClampNeg) * r1) * r5)))) (tI S5 15 (v0).toNatClampNeg x2)))))))))))))))
set_option maxHeartbeats 4000000 in
set_option maxRecDepth 100000 in
theorem C_spread_a110 {p : Program} {l : Launch} {e : Env} {s : State} {m : MethodId} {args : Array Value} {below : List Frame} {meth : Method} {c : Code} {D : va_G} {dA : Nat → ClassId} {o : Nat → Nat} {A : Nat → Prop} {post : CS → Prop} {T26 : Int32 → Int32 → Int32 → CS → Prop} {T59 : Int32 → Int32 → Int32 → Int32 → Int32 → Int32 → Int32 → CS → Prop} {T68 : Int32 → Int32 → Int32 → Int32 → Int32 → Int32 → Int32 → Int32 → CS → Prop} (C : cC RX0 p m c cX0_spread 12 s args meth (Option.none : Option Jvm.ClassFile.FieldType) A) (hT26 : ∀ (x2 : Int32) (x3 : Int32) (x4 : Int32) (S : CS), T26 x2 x3 x4 S → ∀ (H : Heap) (locs : List Loc) (ls : Array Slot), lv_has ls 12 [(0, .ref (o 0)), (2, .int x2), (3, .int x3), (4, .int x4)] → cw D dA o A s S H locs → W p l e (rC_spread) s m args below meth c H locs 0 0 (cQv below args s D dA o A (rC_spread) post) (F0 m 26 ls [])) (hT59 : ∀ (x2 : Int32) (x3 : Int32) (x4 : Int32) (x5 : Int32) (x6 : Int32) (x7 : Int32) (x8 : Int32) (S : CS), T59 x2 x3 x4 x5 x6 x7 x8 S → ∀ (H : Heap) (locs : List Loc) (ls : Array Slot), lv_has ls 12 [(0, .ref (o 0)), (2, .int x2), (3, .int x3), (4, .int x4), (5, .int x5), (6, .int x6), (7, .int x7), (8, .int x8)] → cw D dA o A s S H locs → W p l e (rC_spread) s m args below meth c H locs 0 0 (cQv below args s D dA o A (rC_spread) post) (F0 m 59 ls [])) (hT68 : ∀ (x2 : Int32) (x3 : Int32) (x4 : Int32) (x5 : Int32) (x6 : Int32) (x7 : Int32) (x8 : Int32) (x9 : Int32) (S : CS), T68 x2 x3 x4 x5 x6 x7 x8 x9 S → ∀ (H : Heap) (locs : List Loc) (ls : Array Slot), lv_has ls 12 [(0, .ref (o 0)), (2, .int x2), (3, .int x3), (4, .int x4), (5, .int x5), (6, .int x6), (7, .int x7), (8, .int x8), (9, .int x9)] → cw D dA o A s S H locs → W p l e (rC_spread) s m args below meth c H locs 0 0 (cQv below args s D dA o A (rC_spread) post) (F0 m 68 ls [])) {v0 : Int32} {x2 : Int32} {x3 : Int32} {x4 : Int32} {x5 : Int32} {x6 : Int32} {x7 : Int32} {x8 : Int32} {x9 : Int32} {S : CS} (h : C_spread_w110 post T26 T59 T68 v0 x2 x3 x4 x5 x6 x7 x8 x9 S) {H : Heap} {locs : List Loc} {ls : Array Slot} (hl : lv_has ls 12 [(0, .ref (o 0)), (2, .int x2), (3, .int x3), (4, .int x4), (5, .int x5), (6, .int x6), (7, .int x7), (8, .int x8), (9, .int x9)]) (w : cw D dA o A s S H locs) : W p l e (rC_spread) s m args below meth c H locs 0 0 (cQv below args s D dA o A (rC_spread) post) (F0 m 110 ls [.int v0]) := by
  unfold C_spread_w110 at h
  obtain ⟨⟨hx, hb, hml, hown, hts⟩, hr, hlk, hA⟩ := id C
  refine lv_istore (lv' := [(10, .int _), (0, .ref _), (2, .int _), (3, .int _), (4, .int _), (5, .int _), (6, .int _), (7, .int _), (8, .int _), (9, .int _)]) hx hb dX0_spread_110 hl (by decide) rfl (fun ls hl => ?_)
  refine lv_iload hx hb dX0_spread_112 (lv_at hl 0 rfl) ?_
  refine lv_iconst (v := -1) hx hb dX0_spread_114 (by decide) ?_
  obtain ⟨h1, h2⟩ := h
  refine lv_icmp_eq (tgt := 232) hx hb dX0_spread_115 (by decide) (fun c1 => ?_) (fun c1 => ?_)
  · have h := h1 c1
    exact C_spread_a232 C hT26 hT59 hT68 h (lv_sub hl [1, 2, 3, 4, 5, 6, 7, 8, 9] rfl) w
  · have h := h2 c1
    refine lv_aload_n hx hb dX0_spread_118 rfl (lv_at hl 1 rfl) ?_
    refine cr_get C w 0 rfl rfl in_X0 16 (by decide) q180 rfl rfl dX0_spread_119 ?_
    refine lv_iload hx hb dX0_spread_122 (lv_at hl 5 rfl) ?_
    obtain ⟨hi, h⟩ := h
    refine cr_iald C w 11 rfl hi dX0_spread_124 ?_
    refine lv_iload hx hb dX0_spread_125 (lv_at hl 6 rfl) ?_
    refine lv_bipush (v := 7) hx hb dX0_spread_127 (by decide) ?_
    refine lv_irem hx hb dX0_spread_129 (by decide) ?_
    refine lv_iload hx hb dX0_spread_130 (lv_at hl 9 rfl) ?_
    refine cr_callSI (rest := [.int _]) C w h (va_cwS 2 hts (lw_S q554 q555 q82 q556) rfl rfl rfl C_looks_d ⟨Nat.le_of_ble_eq_true rfl, Nat.le_of_ble_eq_true rfl⟩) rfl hl.1 rfl (Nat.le_of_ble_eq_true rfl) ⟨Nat.le_of_ble_eq_true rfl, Nat.le_of_ble_eq_true rfl⟩ dX0_spread_132 (fun r1 S1 H locs h w => ?_)
    refine lv_imul hx hb dX0_spread_135 ?_
    refine lv_aload_n hx hb dX0_spread_136 rfl (lv_at hl 1 rfl) ?_
    refine lv_iload hx hb dX0_spread_137 (lv_at hl 0 rfl) ?_
    refine cr_callVI (rest := [.int _]) (b := (fun o => o 0)) C w h (recv0 w) (cwV 1 hts (lw_V q539 q541 qs29 q82 q542) rfl rfl rfl C_kindOfCut_d ⟨Nat.le_of_ble_eq_true rfl, Nat.le_of_ble_eq_true rfl⟩) rfl hl.1 rfl (Nat.le_of_ble_eq_true rfl) ⟨Nat.le_of_ble_eq_true rfl, Nat.le_of_ble_eq_true rfl⟩ dX0_spread_139 (fun r2 S2 H locs h w => ?_)
    refine lv_bipush (v := 7) hx hb dX0_spread_142 (by decide) ?_
    refine lv_irem hx hb dX0_spread_144 (by decide) ?_
    refine lv_aload_n hx hb dX0_spread_145 rfl (lv_at hl 1 rfl) ?_
    refine cr_get C w 0 rfl rfl in_X0 0 (by decide) q162 rfl rfl dX0_spread_146 ?_
    refine lv_iload hx hb dX0_spread_149 (lv_at hl 7 rfl) ?_
    obtain ⟨hi, h⟩ := h
    have hj3 := vp_lt hi
    refine cr_gout C w hi dX0_spread_151 ?_
    refine lv_iload hx hb dX0_spread_152 (lv_at hl 8 rfl) ?_
    obtain ⟨hi, h⟩ := h
    refine cr_gin C w hj3 hi dX0_spread_154 ?_
    obtain ⟨g4, hg, hpk, h⟩ := h
    refine cr_opt hg ?_
    refine cr_getGt C w hpk nwF_RX0_175 dX0_spread_155 ?_
    refine lv_iload hx hb dX0_spread_158 (lv_at hl 9 rfl) ?_
    obtain ⟨hpk, hi, h⟩ := h
    refine cr_tald C w hpk hi dX0_spread_160 ?_
    refine cr_callSI (rest := [.int _]) C w h (va_cwS 2 hts (lw_S q554 q555 q82 q556) rfl rfl rfl C_looks_d ⟨Nat.le_of_ble_eq_true rfl, Nat.le_of_ble_eq_true rfl⟩) rfl hl.1 rfl (Nat.le_of_ble_eq_true rfl) ⟨Nat.le_of_ble_eq_true rfl, Nat.le_of_ble_eq_true rfl⟩ dX0_spread_161 (fun r5 S5 H locs h w => ?_)
    refine lv_imul hx hb dX0_spread_164 ?_
    refine lv_istore (lv' := [(11, .int _), (10, .int _), (0, .ref _), (2, .int _), (3, .int _), (4, .int _), (5, .int _), (6, .int _), (7, .int _), (8, .int _), (9, .int _)]) hx hb dX0_spread_165 hl (by decide) rfl (fun ls hl => ?_)
    refine lv_aload_n hx hb dX0_spread_167 rfl (lv_at hl 2 rfl) ?_
    refine cr_get C w 0 rfl rfl in_X0 15 (by decide) q179 rfl rfl dX0_spread_168 ?_
    refine lv_iload hx hb dX0_spread_171 (lv_at hl 1 rfl) ?_
    obtain ⟨hi, h⟩ := h
    refine cr_iald C w 10 rfl hi dX0_spread_173 ?_
    refine lv_iconst (v := -1) hx hb dX0_spread_174 (by decide) ?_
    obtain ⟨h1, h2⟩ := h
    refine lv_icmp_ne (tgt := 206) hx hb dX0_spread_175 (by decide) (fun c1 => ?_) (fun c1 => ?_)
    · have h := h1 c1
      exact C_spread_a206 C hT26 hT59 hT68 h (lv_sub hl [2, 3, 4, 5, 6, 7, 8, 9, 10, 1, 0] rfl) w
    · have h := h2 c1
      refine lv_aload_n hx hb dX0_spread_178 rfl (lv_at hl 2 rfl) ?_
      refine cr_get C w 0 rfl rfl in_X0 15 (by decide) q179 rfl rfl dX0_spread_179 ?_
      refine lv_iload hx hb dX0_spread_182 (lv_at hl 1 rfl) ?_
      refine lv_iload_n hx hb dX0_spread_184 rfl (lv_at hl 3 rfl) ?_
      obtain ⟨hi, h⟩ := h
      refine cr_iast C w 10 rfl hi CWs_15 dX0_spread_185 (fun H locs w => ?_)
      refine lv_aload_n hx hb dX0_spread_186 rfl (lv_at hl 2 rfl) ?_
      refine cr_get C w 0 rfl rfl in_X0 16 (by decide) q180 rfl rfl dX0_spread_187 ?_
      refine lv_iload hx hb dX0_spread_190 (lv_at hl 1 rfl) ?_
      refine lv_iload hx hb dX0_spread_192 (lv_at hl 0 rfl) ?_
      obtain ⟨hi, h⟩ := h
      refine cr_iast C w 11 rfl hi CWs_16 dX0_spread_194 (fun H locs w => ?_)
      refine lv_aload_n hx hb dX0_spread_195 rfl (lv_at hl 2 rfl) ?_
      refine cr_get C w 0 rfl rfl in_X0 17 (by decide) q181 rfl rfl dX0_spread_196 ?_
      refine lv_iload_n hx hb dX0_spread_199 rfl (lv_at hl 4 rfl) ?_
      refine lv_iload hx hb dX0_spread_200 (lv_at hl 1 rfl) ?_
      obtain ⟨hi, h⟩ := h
      refine cr_iast C w 12 rfl hi CWs_17 dX0_spread_202 (fun H locs w => ?_)
      refine lv_iinc (v := _ + (1 : Int32)) (lv' := [(3, .int _), (11, .int _), (10, .int _), (0, .ref _), (2, .int _), (4, .int _), (5, .int _), (6, .int _), (7, .int _), (8, .int _), (9, .int _)]) hx hb dX0_spread_203 hl (k := 4) rfl rfl (by decide) rfl (fun ls hl => ?_)
      exact C_spread_a206 C hT26 hT59 hT68 h (lv_sub hl [3, 4, 0, 5, 6, 7, 8, 9, 10, 2, 1] rfl) w
def C_spread_w68 (post : CS → Prop) (T26 : Int32 → Int32 → Int32 → CS → Prop) (T59 : Int32 → Int32 → Int32 → Int32 → Int32 → Int32 → Int32 → CS → Prop) (T68 : Int32 → Int32 → Int32 → Int32 → Int32 → Int32 → Int32 → Int32 → CS → Prop) (x2 : Int32) (x3 : Int32) (x4 : Int32) (x5 : Int32) (x6 : Int32) (x7 : Int32) (x8 : Int32) (x9 : Int32) (S : CS) : Prop :=
  (((4 : Int32) ≤ x9 → C_spread_w238 post T26 T59 T68 x2 x3 x4 x5 x6 x7 x8 S) ∧ (¬ (4 : Int32) ≤ x9 → (vp_in x7 3 ∧ (vp_in x8 4 ∧ (((kGl S ((x7).toNatClampNeg) (x8).toNatClampNeg) = none → C_spread_w238 post T26 T59 T68 x2 x3 x4 x5 x6 x7 x8 S) ∧ (∀ g2 : Nat, (kGl S ((x7).toNatClampNeg) (x8).toNatClampNeg) = some g2 → ((¬ x9 = x8 → C_beyond x5 x7 x8 x9 S (fun (r3 : Int32) (S3 : CS) => C_spread_w110 post T26 T59 T68 r3 x2 x3 x4 x5 x6 x7 x8 x9 S3)) ∧ (x9 = x8 → C_spread_w110 post T26 T59 T68 (-1 : Int32) x2 x3 x4 x5 x6 x7 x8 x9 S))))))))
set_option maxHeartbeats 4000000 in
set_option maxRecDepth 100000 in
theorem C_spread_a68 {p : Program} {l : Launch} {e : Env} {s : State} {m : MethodId} {args : Array Value} {below : List Frame} {meth : Method} {c : Code} {D : va_G} {dA : Nat → ClassId} {o : Nat → Nat} {A : Nat → Prop} {post : CS → Prop} {T26 : Int32 → Int32 → Int32 → CS → Prop} {T59 : Int32 → Int32 → Int32 → Int32 → Int32 → Int32 → Int32 → CS → Prop} {T68 : Int32 → Int32 → Int32 → Int32 → Int32 → Int32 → Int32 → Int32 → CS → Prop} (C : cC RX0 p m c cX0_spread 12 s args meth (Option.none : Option Jvm.ClassFile.FieldType) A) (hT26 : ∀ (x2 : Int32) (x3 : Int32) (x4 : Int32) (S : CS), T26 x2 x3 x4 S → ∀ (H : Heap) (locs : List Loc) (ls : Array Slot), lv_has ls 12 [(0, .ref (o 0)), (2, .int x2), (3, .int x3), (4, .int x4)] → cw D dA o A s S H locs → W p l e (rC_spread) s m args below meth c H locs 0 0 (cQv below args s D dA o A (rC_spread) post) (F0 m 26 ls [])) (hT59 : ∀ (x2 : Int32) (x3 : Int32) (x4 : Int32) (x5 : Int32) (x6 : Int32) (x7 : Int32) (x8 : Int32) (S : CS), T59 x2 x3 x4 x5 x6 x7 x8 S → ∀ (H : Heap) (locs : List Loc) (ls : Array Slot), lv_has ls 12 [(0, .ref (o 0)), (2, .int x2), (3, .int x3), (4, .int x4), (5, .int x5), (6, .int x6), (7, .int x7), (8, .int x8)] → cw D dA o A s S H locs → W p l e (rC_spread) s m args below meth c H locs 0 0 (cQv below args s D dA o A (rC_spread) post) (F0 m 59 ls [])) (hT68 : ∀ (x2 : Int32) (x3 : Int32) (x4 : Int32) (x5 : Int32) (x6 : Int32) (x7 : Int32) (x8 : Int32) (x9 : Int32) (S : CS), T68 x2 x3 x4 x5 x6 x7 x8 x9 S → ∀ (H : Heap) (locs : List Loc) (ls : Array Slot), lv_has ls 12 [(0, .ref (o 0)), (2, .int x2), (3, .int x3), (4, .int x4), (5, .int x5), (6, .int x6), (7, .int x7), (8, .int x8), (9, .int x9)] → cw D dA o A s S H locs → W p l e (rC_spread) s m args below meth c H locs 0 0 (cQv below args s D dA o A (rC_spread) post) (F0 m 68 ls [])) {x2 : Int32} {x3 : Int32} {x4 : Int32} {x5 : Int32} {x6 : Int32} {x7 : Int32} {x8 : Int32} {x9 : Int32} {S : CS} (h : C_spread_w68 post T26 T59 T68 x2 x3 x4 x5 x6 x7 x8 x9 S) {H : Heap} {locs : List Loc} {ls : Array Slot} (hl : lv_has ls 12 [(0, .ref (o 0)), (2, .int x2), (3, .int x3), (4, .int x4), (5, .int x5), (6, .int x6), (7, .int x7), (8, .int x8), (9, .int x9)]) (w : cw D dA o A s S H locs) : W p l e (rC_spread) s m args below meth c H locs 0 0 (cQv below args s D dA o A (rC_spread) post) (F0 m 68 ls []) := by
  unfold C_spread_w68 at h
  obtain ⟨⟨hx, hb, hml, hown, hts⟩, hr, hlk, hA⟩ := id C
  refine lv_iload hx hb dX0_spread_68 (lv_at hl 8 rfl) ?_
  refine lv_iconst (v := 4) hx hb dX0_spread_70 (by decide) ?_
  obtain ⟨h1, h2⟩ := h
  refine lv_icmp_ge (tgt := 238) hx hb dX0_spread_71 (by decide) (fun c1 => ?_) (fun c1 => ?_)
  · have h := h1 c1
    exact C_spread_a238 C hT26 hT59 hT68 h (lv_sub hl [0, 1, 2, 3, 4, 5, 6, 7] rfl) w
  · have h := h2 c1
    refine lv_aload_n hx hb dX0_spread_74 rfl (lv_at hl 0 rfl) ?_
    refine cr_get C w 0 rfl rfl in_X0 0 (by decide) q162 rfl rfl dX0_spread_75 ?_
    refine lv_iload hx hb dX0_spread_78 (lv_at hl 6 rfl) ?_
    obtain ⟨hi, h⟩ := h
    have hj1 := vp_lt hi
    refine cr_gout C w hi dX0_spread_80 ?_
    refine lv_iload hx hb dX0_spread_81 (lv_at hl 7 rfl) ?_
    obtain ⟨hi, h⟩ := h
    refine cr_gin C w hj1 hi dX0_spread_83 ?_
    obtain ⟨h1, h2⟩ := h
    refine lv_ifnullQ (tgt := 238) hx hb dX0_spread_84 (by decide) (fun c1 => ?_) (fun g2 c1 => ?_)
    · have h := h1 c1
      exact C_spread_a238 C hT26 hT59 hT68 h (lv_sub hl [0, 1, 2, 3, 4, 5, 6, 7] rfl) w
    · have h := h2 g2 c1
      refine lv_iload hx hb dX0_spread_87 (lv_at hl 8 rfl) ?_
      refine lv_iload hx hb dX0_spread_89 (lv_at hl 7 rfl) ?_
      obtain ⟨h1, h2⟩ := h
      refine lv_icmp_ne (tgt := 98) hx hb dX0_spread_91 (by decide) (fun c1 => ?_) (fun c1 => ?_)
      · have h := h1 c1
        refine lv_aload_n hx hb dX0_spread_98 rfl (lv_at hl 0 rfl) ?_
        refine lv_iload hx hb dX0_spread_99 (lv_at hl 4 rfl) ?_
        refine lv_iload hx hb dX0_spread_101 (lv_at hl 6 rfl) ?_
        refine lv_iload hx hb dX0_spread_103 (lv_at hl 7 rfl) ?_
        refine lv_iload hx hb dX0_spread_105 (lv_at hl 8 rfl) ?_
        refine cr_callVI (rest := []) (b := (fun o => o 0)) C w h (recv0 w) (cwV 4 hts (lw_V q543 q545 qs30 q82 q546) rfl rfl rfl C_beyond_d ⟨Nat.le_of_ble_eq_true rfl, Nat.le_of_ble_eq_true rfl⟩) rfl hl.1 rfl (Nat.le_of_ble_eq_true rfl) ⟨Nat.le_of_ble_eq_true rfl, Nat.le_of_ble_eq_true rfl⟩ dX0_spread_107 (fun r3 S3 H locs h w => ?_)
        exact C_spread_a110 C hT26 hT59 hT68 h (lv_sub hl [0, 1, 2, 3, 4, 5, 6, 7, 8] rfl) w
      · have h := h2 c1
        refine lv_iconst (v := -1) hx hb dX0_spread_94 (by decide) ?_
        refine lv_goto (tgt := 110) hx hb dX0_spread_95 (by decide) ?_
        exact C_spread_a110 C hT26 hT59 hT68 h (lv_sub hl [0, 1, 2, 3, 4, 5, 6, 7, 8] rfl) w
def C_spread_w59 (post : CS → Prop) (T26 : Int32 → Int32 → Int32 → CS → Prop) (T59 : Int32 → Int32 → Int32 → Int32 → Int32 → Int32 → Int32 → CS → Prop) (T68 : Int32 → Int32 → Int32 → Int32 → Int32 → Int32 → Int32 → Int32 → CS → Prop) (x2 : Int32) (x3 : Int32) (x4 : Int32) (x5 : Int32) (x6 : Int32) (x7 : Int32) (x8 : Int32) (S : CS) : Prop :=
  (((4 : Int32) ≤ x8 → T26 x2 x3 (x4 + (1 : Int32)) S) ∧ (¬ (4 : Int32) ≤ x8 → T68 x2 x3 x4 x5 x6 x7 x8 (0 : Int32) S))
set_option maxHeartbeats 4000000 in
set_option maxRecDepth 100000 in
theorem C_spread_a59 {p : Program} {l : Launch} {e : Env} {s : State} {m : MethodId} {args : Array Value} {below : List Frame} {meth : Method} {c : Code} {D : va_G} {dA : Nat → ClassId} {o : Nat → Nat} {A : Nat → Prop} {post : CS → Prop} {T26 : Int32 → Int32 → Int32 → CS → Prop} {T59 : Int32 → Int32 → Int32 → Int32 → Int32 → Int32 → Int32 → CS → Prop} {T68 : Int32 → Int32 → Int32 → Int32 → Int32 → Int32 → Int32 → Int32 → CS → Prop} (C : cC RX0 p m c cX0_spread 12 s args meth (Option.none : Option Jvm.ClassFile.FieldType) A) (hT26 : ∀ (x2 : Int32) (x3 : Int32) (x4 : Int32) (S : CS), T26 x2 x3 x4 S → ∀ (H : Heap) (locs : List Loc) (ls : Array Slot), lv_has ls 12 [(0, .ref (o 0)), (2, .int x2), (3, .int x3), (4, .int x4)] → cw D dA o A s S H locs → W p l e (rC_spread) s m args below meth c H locs 0 0 (cQv below args s D dA o A (rC_spread) post) (F0 m 26 ls [])) (hT59 : ∀ (x2 : Int32) (x3 : Int32) (x4 : Int32) (x5 : Int32) (x6 : Int32) (x7 : Int32) (x8 : Int32) (S : CS), T59 x2 x3 x4 x5 x6 x7 x8 S → ∀ (H : Heap) (locs : List Loc) (ls : Array Slot), lv_has ls 12 [(0, .ref (o 0)), (2, .int x2), (3, .int x3), (4, .int x4), (5, .int x5), (6, .int x6), (7, .int x7), (8, .int x8)] → cw D dA o A s S H locs → W p l e (rC_spread) s m args below meth c H locs 0 0 (cQv below args s D dA o A (rC_spread) post) (F0 m 59 ls [])) (hT68 : ∀ (x2 : Int32) (x3 : Int32) (x4 : Int32) (x5 : Int32) (x6 : Int32) (x7 : Int32) (x8 : Int32) (x9 : Int32) (S : CS), T68 x2 x3 x4 x5 x6 x7 x8 x9 S → ∀ (H : Heap) (locs : List Loc) (ls : Array Slot), lv_has ls 12 [(0, .ref (o 0)), (2, .int x2), (3, .int x3), (4, .int x4), (5, .int x5), (6, .int x6), (7, .int x7), (8, .int x8), (9, .int x9)] → cw D dA o A s S H locs → W p l e (rC_spread) s m args below meth c H locs 0 0 (cQv below args s D dA o A (rC_spread) post) (F0 m 68 ls [])) {x2 : Int32} {x3 : Int32} {x4 : Int32} {x5 : Int32} {x6 : Int32} {x7 : Int32} {x8 : Int32} {S : CS} (h : C_spread_w59 post T26 T59 T68 x2 x3 x4 x5 x6 x7 x8 S) {H : Heap} {locs : List Loc} {ls : Array Slot} (hl : lv_has ls 12 [(0, .ref (o 0)), (2, .int x2), (3, .int x3), (4, .int x4), (5, .int x5), (6, .int x6), (7, .int x7), (8, .int x8)]) (w : cw D dA o A s S H locs) : W p l e (rC_spread) s m args below meth c H locs 0 0 (cQv below args s D dA o A (rC_spread) post) (F0 m 59 ls []) := by
  unfold C_spread_w59 at h
  obtain ⟨⟨hx, hb, hml, hown, hts⟩, hr, hlk, hA⟩ := id C
  refine lv_iload hx hb dX0_spread_59 (lv_at hl 7 rfl) ?_
  refine lv_iconst (v := 4) hx hb dX0_spread_61 (by decide) ?_
  obtain ⟨h1, h2⟩ := h
  refine lv_icmp_ge (tgt := 244) hx hb dX0_spread_62 (by decide) (fun c1 => ?_) (fun c1 => ?_)
  · have h := h1 c1
    refine lv_iinc (v := _ + (1 : Int32)) (lv' := [(4, .int _), (0, .ref _), (2, .int _), (3, .int _), (5, .int _), (6, .int _), (7, .int _), (8, .int _)]) hx hb dX0_spread_244 hl (k := 3) rfl rfl (by decide) rfl (fun ls hl => ?_)
    refine lv_goto (tgt := 26) hx hb dX0_spread_247 (by decide) ?_
    exact hT26 _ _ _ _ h _ _ _ (lv_sub hl [1, 2, 3, 0] rfl) w
  · have h := h2 c1
    refine lv_iconst (v := 0) hx hb dX0_spread_65 (by decide) ?_
    refine lv_istore (lv' := [(9, .int _), (0, .ref _), (2, .int _), (3, .int _), (4, .int _), (5, .int _), (6, .int _), (7, .int _), (8, .int _)]) hx hb dX0_spread_66 hl (by decide) rfl (fun ls hl => ?_)
    exact hT68 _ _ _ _ _ _ _ _ _ h _ _ _ (lv_sub hl [1, 2, 3, 4, 5, 6, 7, 8, 0] rfl) w
def C_spread_w26 (post : CS → Prop) (T26 : Int32 → Int32 → Int32 → CS → Prop) (T59 : Int32 → Int32 → Int32 → Int32 → Int32 → Int32 → Int32 → CS → Prop) (T68 : Int32 → Int32 → Int32 → Int32 → Int32 → Int32 → Int32 → Int32 → CS → Prop) (x2 : Int32) (x3 : Int32) (x4 : Int32) (S : CS) : Prop :=
  ((x3 ≤ x4 → post S) ∧ (¬ x3 ≤ x4 → (vp_in x4 400 ∧ C_kindOfCut (kI S 17 (x4).toNatClampNeg) S (fun (r1 : Int32) (S1 : CS) => T59 x2 x3 x4 (kI S 17 (x4).toNatClampNeg) r1 (r1 / (7 : Int32)) (0 : Int32) S1))))
set_option maxHeartbeats 4000000 in
set_option maxRecDepth 100000 in
theorem C_spread_a26 {p : Program} {l : Launch} {e : Env} {s : State} {m : MethodId} {args : Array Value} {below : List Frame} {meth : Method} {c : Code} {D : va_G} {dA : Nat → ClassId} {o : Nat → Nat} {A : Nat → Prop} {post : CS → Prop} {T26 : Int32 → Int32 → Int32 → CS → Prop} {T59 : Int32 → Int32 → Int32 → Int32 → Int32 → Int32 → Int32 → CS → Prop} {T68 : Int32 → Int32 → Int32 → Int32 → Int32 → Int32 → Int32 → Int32 → CS → Prop} (C : cC RX0 p m c cX0_spread 12 s args meth (Option.none : Option Jvm.ClassFile.FieldType) A) (hT26 : ∀ (x2 : Int32) (x3 : Int32) (x4 : Int32) (S : CS), T26 x2 x3 x4 S → ∀ (H : Heap) (locs : List Loc) (ls : Array Slot), lv_has ls 12 [(0, .ref (o 0)), (2, .int x2), (3, .int x3), (4, .int x4)] → cw D dA o A s S H locs → W p l e (rC_spread) s m args below meth c H locs 0 0 (cQv below args s D dA o A (rC_spread) post) (F0 m 26 ls [])) (hT59 : ∀ (x2 : Int32) (x3 : Int32) (x4 : Int32) (x5 : Int32) (x6 : Int32) (x7 : Int32) (x8 : Int32) (S : CS), T59 x2 x3 x4 x5 x6 x7 x8 S → ∀ (H : Heap) (locs : List Loc) (ls : Array Slot), lv_has ls 12 [(0, .ref (o 0)), (2, .int x2), (3, .int x3), (4, .int x4), (5, .int x5), (6, .int x6), (7, .int x7), (8, .int x8)] → cw D dA o A s S H locs → W p l e (rC_spread) s m args below meth c H locs 0 0 (cQv below args s D dA o A (rC_spread) post) (F0 m 59 ls [])) (hT68 : ∀ (x2 : Int32) (x3 : Int32) (x4 : Int32) (x5 : Int32) (x6 : Int32) (x7 : Int32) (x8 : Int32) (x9 : Int32) (S : CS), T68 x2 x3 x4 x5 x6 x7 x8 x9 S → ∀ (H : Heap) (locs : List Loc) (ls : Array Slot), lv_has ls 12 [(0, .ref (o 0)), (2, .int x2), (3, .int x3), (4, .int x4), (5, .int x5), (6, .int x6), (7, .int x7), (8, .int x8), (9, .int x9)] → cw D dA o A s S H locs → W p l e (rC_spread) s m args below meth c H locs 0 0 (cQv below args s D dA o A (rC_spread) post) (F0 m 68 ls [])) {x2 : Int32} {x3 : Int32} {x4 : Int32} {S : CS} (h : C_spread_w26 post T26 T59 T68 x2 x3 x4 S) {H : Heap} {locs : List Loc} {ls : Array Slot} (hl : lv_has ls 12 [(0, .ref (o 0)), (2, .int x2), (3, .int x3), (4, .int x4)]) (w : cw D dA o A s S H locs) : W p l e (rC_spread) s m args below meth c H locs 0 0 (cQv below args s D dA o A (rC_spread) post) (F0 m 26 ls []) := by
  unfold C_spread_w26 at h
  obtain ⟨⟨hx, hb, hml, hown, hts⟩, hr, hlk, hA⟩ := id C
  refine lv_iload hx hb dX0_spread_26 (lv_at hl 3 rfl) ?_
  refine lv_iload_n hx hb dX0_spread_28 rfl (lv_at hl 2 rfl) ?_
  obtain ⟨h1, h2⟩ := h
  refine lv_icmp_ge (tgt := 250) hx hb dX0_spread_29 (by decide) (fun c1 => ?_) (fun c1 => ?_)
  · have h := h1 c1
    exact cr_vret C w h (Nat.le_of_ble_eq_true rfl) (Nat.le_of_ble_eq_true rfl) dX0_spread_250
  · have h := h2 c1
    refine lv_aload_n hx hb dX0_spread_32 rfl (lv_at hl 0 rfl) ?_
    refine cr_get C w 0 rfl rfl in_X0 17 (by decide) q181 rfl rfl dX0_spread_33 ?_
    refine lv_iload hx hb dX0_spread_36 (lv_at hl 3 rfl) ?_
    obtain ⟨hi, h⟩ := h
    refine cr_iald C w 12 rfl hi dX0_spread_38 ?_
    refine lv_istore (lv' := [(5, .int _), (0, .ref _), (2, .int _), (3, .int _), (4, .int _)]) hx hb dX0_spread_39 hl (by decide) rfl (fun ls hl => ?_)
    refine lv_aload_n hx hb dX0_spread_41 rfl (lv_at hl 1 rfl) ?_
    refine lv_iload hx hb dX0_spread_42 (lv_at hl 0 rfl) ?_
    refine cr_callVI (rest := []) (b := (fun o => o 0)) C w h (recv0 w) (cwV 1 hts (lw_V q539 q541 qs29 q82 q542) rfl rfl rfl C_kindOfCut_d ⟨Nat.le_of_ble_eq_true rfl, Nat.le_of_ble_eq_true rfl⟩) rfl hl.1 rfl (Nat.le_of_ble_eq_true rfl) ⟨Nat.le_of_ble_eq_true rfl, Nat.le_of_ble_eq_true rfl⟩ dX0_spread_44 (fun r1 S1 H locs h w => ?_)
    refine lv_istore (lv' := [(6, .int _), (5, .int _), (0, .ref _), (2, .int _), (3, .int _), (4, .int _)]) hx hb dX0_spread_47 hl (by decide) rfl (fun ls hl => ?_)
    refine lv_iload hx hb dX0_spread_49 (lv_at hl 0 rfl) ?_
    refine lv_bipush (v := 7) hx hb dX0_spread_51 (by decide) ?_
    refine lv_idiv hx hb dX0_spread_53 (by decide) ?_
    refine lv_istore (lv' := [(7, .int _), (6, .int _), (5, .int _), (0, .ref _), (2, .int _), (3, .int _), (4, .int _)]) hx hb dX0_spread_54 hl (by decide) rfl (fun ls hl => ?_)
    refine lv_iconst (v := 0) hx hb dX0_spread_56 (by decide) ?_
    refine lv_istore (lv' := [(8, .int _), (7, .int _), (6, .int _), (5, .int _), (0, .ref _), (2, .int _), (3, .int _), (4, .int _)]) hx hb dX0_spread_57 hl (by decide) rfl (fun ls hl => ?_)
    exact hT59 _ _ _ _ _ _ _ _ h _ _ _ (lv_sub hl [4, 5, 6, 7, 3, 2, 1, 0] rfl) w
def C_spread_w0 (post : CS → Prop) (T26 : Int32 → Int32 → Int32 → CS → Prop) (T59 : Int32 → Int32 → Int32 → Int32 → Int32 → Int32 → Int32 → CS → Prop) (T68 : Int32 → Int32 → Int32 → Int32 → Int32 → Int32 → Int32 → Int32 → CS → Prop) (x1 : Int32) (x2 : Int32) (S : CS) : Prop :=
  (fun (S1 : CS) => (vp_in x1 400 ∧ (fun (S2 : CS) => (vp_in x1 400 ∧ (fun (S3 : CS) => T26 x2 (1 : Int32) (0 : Int32) S3) (tI S2 16 (x1).toNatClampNeg (1 : Int32)))) (tI S1 15 (x1).toNatClampNeg x2))) (tI S 17 ((0 : Int32)).toNatClampNeg x1)
set_option maxHeartbeats 4000000 in
set_option maxRecDepth 100000 in
theorem C_spread_a0 {p : Program} {l : Launch} {e : Env} {s : State} {m : MethodId} {args : Array Value} {below : List Frame} {meth : Method} {c : Code} {D : va_G} {dA : Nat → ClassId} {o : Nat → Nat} {A : Nat → Prop} {post : CS → Prop} {T26 : Int32 → Int32 → Int32 → CS → Prop} {T59 : Int32 → Int32 → Int32 → Int32 → Int32 → Int32 → Int32 → CS → Prop} {T68 : Int32 → Int32 → Int32 → Int32 → Int32 → Int32 → Int32 → Int32 → CS → Prop} (C : cC RX0 p m c cX0_spread 12 s args meth (Option.none : Option Jvm.ClassFile.FieldType) A) (hT26 : ∀ (x2 : Int32) (x3 : Int32) (x4 : Int32) (S : CS), T26 x2 x3 x4 S → ∀ (H : Heap) (locs : List Loc) (ls : Array Slot), lv_has ls 12 [(0, .ref (o 0)), (2, .int x2), (3, .int x3), (4, .int x4)] → cw D dA o A s S H locs → W p l e (rC_spread) s m args below meth c H locs 0 0 (cQv below args s D dA o A (rC_spread) post) (F0 m 26 ls [])) (hT59 : ∀ (x2 : Int32) (x3 : Int32) (x4 : Int32) (x5 : Int32) (x6 : Int32) (x7 : Int32) (x8 : Int32) (S : CS), T59 x2 x3 x4 x5 x6 x7 x8 S → ∀ (H : Heap) (locs : List Loc) (ls : Array Slot), lv_has ls 12 [(0, .ref (o 0)), (2, .int x2), (3, .int x3), (4, .int x4), (5, .int x5), (6, .int x6), (7, .int x7), (8, .int x8)] → cw D dA o A s S H locs → W p l e (rC_spread) s m args below meth c H locs 0 0 (cQv below args s D dA o A (rC_spread) post) (F0 m 59 ls [])) (hT68 : ∀ (x2 : Int32) (x3 : Int32) (x4 : Int32) (x5 : Int32) (x6 : Int32) (x7 : Int32) (x8 : Int32) (x9 : Int32) (S : CS), T68 x2 x3 x4 x5 x6 x7 x8 x9 S → ∀ (H : Heap) (locs : List Loc) (ls : Array Slot), lv_has ls 12 [(0, .ref (o 0)), (2, .int x2), (3, .int x3), (4, .int x4), (5, .int x5), (6, .int x6), (7, .int x7), (8, .int x8), (9, .int x9)] → cw D dA o A s S H locs → W p l e (rC_spread) s m args below meth c H locs 0 0 (cQv below args s D dA o A (rC_spread) post) (F0 m 68 ls [])) {x1 : Int32} {x2 : Int32} {S : CS} (h : C_spread_w0 post T26 T59 T68 x1 x2 S) {H : Heap} {locs : List Loc} {ls : Array Slot} (hl : lv_has ls 12 [(0, .ref (o 0)), (1, .int x1), (2, .int x2)]) (w : cw D dA o A s S H locs) : W p l e (rC_spread) s m args below meth c H locs 0 0 (cQv below args s D dA o A (rC_spread) post) (F0 m 0 ls []) := by
  unfold C_spread_w0 at h
  obtain ⟨⟨hx, hb, hml, hown, hts⟩, hr, hlk, hA⟩ := id C
  refine lv_iconst (v := 1) hx hb dX0_spread_0 (by decide) ?_
  refine lv_istore_n (lv' := [(3, .int _), (0, .ref _), (1, .int _), (2, .int _)]) hx hb dX0_spread_1 rfl hl (by decide) rfl (fun ls hl => ?_)
  refine lv_aload_n hx hb dX0_spread_2 rfl (lv_at hl 1 rfl) ?_
  refine cr_get C w 0 rfl rfl in_X0 17 (by decide) q181 rfl rfl dX0_spread_3 ?_
  refine lv_iconst (v := 0) hx hb dX0_spread_6 (by decide) ?_
  refine lv_iload_n hx hb dX0_spread_7 rfl (lv_at hl 2 rfl) ?_
  refine cr_iast C w 12 rfl (by unfold vp_in; decide) CWs_17 dX0_spread_8 (fun H locs w => ?_)
  refine lv_aload_n hx hb dX0_spread_9 rfl (lv_at hl 1 rfl) ?_
  refine cr_get C w 0 rfl rfl in_X0 15 (by decide) q179 rfl rfl dX0_spread_10 ?_
  refine lv_iload_n hx hb dX0_spread_13 rfl (lv_at hl 2 rfl) ?_
  refine lv_iload_n hx hb dX0_spread_14 rfl (lv_at hl 3 rfl) ?_
  obtain ⟨hi, h⟩ := h
  refine cr_iast C w 10 rfl hi CWs_15 dX0_spread_15 (fun H locs w => ?_)
  refine lv_aload_n hx hb dX0_spread_16 rfl (lv_at hl 1 rfl) ?_
  refine cr_get C w 0 rfl rfl in_X0 16 (by decide) q180 rfl rfl dX0_spread_17 ?_
  refine lv_iload_n hx hb dX0_spread_20 rfl (lv_at hl 2 rfl) ?_
  refine lv_iconst (v := 1) hx hb dX0_spread_21 (by decide) ?_
  obtain ⟨hi, h⟩ := h
  refine cr_iast C w 11 rfl hi CWs_16 dX0_spread_22 (fun H locs w => ?_)
  refine lv_iconst (v := 0) hx hb dX0_spread_23 (by decide) ?_
  refine lv_istore (lv' := [(4, .int _), (3, .int _), (0, .ref _), (1, .int _), (2, .int _)]) hx hb dX0_spread_24 hl (by decide) rfl (fun ls hl => ?_)
  exact hT26 _ _ _ _ h _ _ _ (lv_sub hl [2, 4, 1, 0] rfl) w
def C_spread_VC (x1 : Int32) (x2 : Int32) (S : CS) (post : CS → Prop) : Prop := ∀ (T26 : Int32 → Int32 → Int32 → CS → Prop) (T59 : Int32 → Int32 → Int32 → Int32 → Int32 → Int32 → Int32 → CS → Prop) (T68 : Int32 → Int32 → Int32 → Int32 → Int32 → Int32 → Int32 → Int32 → CS → Prop), (∀ (x2 : Int32) (x3 : Int32) (x4 : Int32) (S : CS), C_spread_w26 post T26 T59 T68 x2 x3 x4 S → T26 x2 x3 x4 S) → (∀ (x2 : Int32) (x3 : Int32) (x4 : Int32) (x5 : Int32) (x6 : Int32) (x7 : Int32) (x8 : Int32) (S : CS), C_spread_w59 post T26 T59 T68 x2 x3 x4 x5 x6 x7 x8 S → T59 x2 x3 x4 x5 x6 x7 x8 S) → (∀ (x2 : Int32) (x3 : Int32) (x4 : Int32) (x5 : Int32) (x6 : Int32) (x7 : Int32) (x8 : Int32) (x9 : Int32) (S : CS), C_spread_w68 post T26 T59 T68 x2 x3 x4 x5 x6 x7 x8 x9 S → T68 x2 x3 x4 x5 x6 x7 x8 x9 S) → C_spread_w0 post T26 T59 T68 x1 x2 S
theorem C_spread_ok {x1 : Int32} {x2 : Int32} {S : CS} {post : CS → Prop} (h : C_spread_VC x1 x2 S post) : C_spread x1 x2 S post := by
  intro l D dA o sz
  refine cr_start (fun A => va_Qv post (cB D dA o A) A) rfl (Nat.le_of_ble_eq_true rfl) (by decide) ?_
  intro p e s m args below meth c ls A C w hl
  have hl : lv_has ls 12 [(0, .ref (o 0)), (1, .int x1), (2, .int x2)] := hl
  have h := h (fun (x2 : Int32) (x3 : Int32) (x4 : Int32) S => ∀ (H : Heap) (locs : List Loc) (ls : Array Slot), lv_has ls 12 [(0, .ref (o 0)), (2, .int x2), (3, .int x3), (4, .int x4)] → cw D dA o A s S H locs → W p l e (rC_spread) s m args below meth c H locs 0 0 (cQv below args s D dA o A (rC_spread) post) (F0 m 26 ls [])) (fun (x2 : Int32) (x3 : Int32) (x4 : Int32) (x5 : Int32) (x6 : Int32) (x7 : Int32) (x8 : Int32) S => ∀ (H : Heap) (locs : List Loc) (ls : Array Slot), lv_has ls 12 [(0, .ref (o 0)), (2, .int x2), (3, .int x3), (4, .int x4), (5, .int x5), (6, .int x6), (7, .int x7), (8, .int x8)] → cw D dA o A s S H locs → W p l e (rC_spread) s m args below meth c H locs 0 0 (cQv below args s D dA o A (rC_spread) post) (F0 m 59 ls [])) (fun (x2 : Int32) (x3 : Int32) (x4 : Int32) (x5 : Int32) (x6 : Int32) (x7 : Int32) (x8 : Int32) (x9 : Int32) S => ∀ (H : Heap) (locs : List Loc) (ls : Array Slot), lv_has ls 12 [(0, .ref (o 0)), (2, .int x2), (3, .int x3), (4, .int x4), (5, .int x5), (6, .int x6), (7, .int x7), (8, .int x8), (9, .int x9)] → cw D dA o A s S H locs → W p l e (rC_spread) s m args below meth c H locs 0 0 (cQv below args s D dA o A (rC_spread) post) (F0 m 68 ls [])) (fun _ _ _ S h H locs ls hl w => C_spread_a26 C (fun _ _ _ _ h => h) (fun _ _ _ _ _ _ _ _ h => h) (fun _ _ _ _ _ _ _ _ _ h => h) h hl w) (fun _ _ _ _ _ _ _ S h H locs ls hl w => C_spread_a59 C (fun _ _ _ _ h => h) (fun _ _ _ _ _ _ _ _ h => h) (fun _ _ _ _ _ _ _ _ _ h => h) h hl w) (fun _ _ _ _ _ _ _ _ S h H locs ls hl w => C_spread_a68 C (fun _ _ _ _ h => h) (fun _ _ _ _ _ _ _ _ h => h) (fun _ _ _ _ _ _ _ _ _ h => h) h hl w)
  exact C_spread_a0 C (fun _ _ _ _ h => h) (fun _ _ _ _ _ _ _ _ h => h) (fun _ _ _ _ _ _ _ _ _ h => h) h (lv_sub hl [0, 1, 2] rfl) w
