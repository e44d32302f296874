/-! ThirdSheets$Sort.find()I -/
def C_findS3_w83 (post : Int32 → CS → Prop) (T7 : Int32 → CS → Prop) (T38 : Int32 → CS → Prop) (x1 : Int32) (S : CS) : Prop :=
  T38 (x1 + (1 : Int32)) S
set_option maxHeartbeats 4000000 in
set_option maxRecDepth 100000 in
theorem C_findS3_a83 {p : Program} {l : Launch} {e : Env} {s : State} {m : MethodId} {args : Array Value} {below : List Frame} {meth : Method} {c : Code} {D : va_G} {dA : Nat → ClassId} {o : Nat → Nat} {A : Nat → Prop} {post : Int32 → CS → Prop} {T7 : Int32 → CS → Prop} {T38 : Int32 → CS → Prop} (C : cC RX1 p m c cX1_find 2 s args meth (Option.some Jvm.ClassFile.FieldType.int) A) (hT7 : ∀ (x1 : Int32) (S : CS), T7 x1 S → ∀ (H : Heap) (locs : List Loc) (ls : Array Slot), lv_has ls 2 [(0, .ref (o 3)), (1, .int x1)] → cw D dA o A s S H locs → W p l e (rC_findS3) s m args below meth c H locs 0 0 (cQi below args s D dA o A (rC_findS3) post) (F0 m 7 ls [])) (hT38 : ∀ (x1 : Int32) (S : CS), T38 x1 S → ∀ (H : Heap) (locs : List Loc) (ls : Array Slot), lv_has ls 2 [(0, .ref (o 3)), (1, .int x1)] → cw D dA o A s S H locs → W p l e (rC_findS3) s m args below meth c H locs 0 0 (cQi below args s D dA o A (rC_findS3) post) (F0 m 38 ls [])) {x1 : Int32} {S : CS} (h : C_findS3_w83 post T7 T38 x1 S) {H : Heap} {locs : List Loc} {ls : Array Slot} (hl : lv_has ls 2 [(0, .ref (o 3)), (1, .int x1)]) (w : cw D dA o A s S H locs) : W p l e (rC_findS3) s m args below meth c H locs 0 0 (cQi below args s D dA o A (rC_findS3) post) (F0 m 83 ls []) := by
  unfold C_findS3_w83 at h
  obtain ⟨⟨hx, hb, hml, hown, hts⟩, hr, hlk, hA⟩ := id C
  refine lv_iinc (v := _ + (1 : Int32)) (lv' := [(1, .int _), (0, .ref _)]) hx hb dX1_find_83 hl (k := 1) rfl rfl (by decide) rfl (fun ls hl => ?_)
  refine lv_goto (tgt := 38) hx hb dX1_find_86 (by decide) ?_
  exact hT38 _ _ h _ _ _ (lv_sub hl [1, 0] rfl) w
def C_findS3_w38 (post : Int32 → CS → Prop) (T7 : Int32 → CS → Prop) (T38 : Int32 → CS → Prop) (x1 : Int32) (S : CS) : Prop :=
  ((((kF S 1) * (6 : Int32)) ≤ x1 → post (kF S 43) S) ∧ (¬ ((kF S 1) * (6 : Int32)) ≤ x1 → (vp_in x1 18 ∧ ((¬ (kI S 33 (x1).toNatClampNeg) = (-1 : Int32) → C_findS3_w83 post T7 T38 x1 S) ∧ ((kI S 33 (x1).toNatClampNeg) = (-1 : Int32) → C_spreadS3 36 x1 (kF S 43) S (fun (S1 : CS) => (fun (S2 : CS) => C_findS3_w83 post T7 T38 x1 S2) (tF S1 43 ((kF S1 43) + (1 : Int32)))))))))
set_option maxHeartbeats 4000000 in
set_option maxRecDepth 100000 in
theorem C_findS3_a38 {p : Program} {l : Launch} {e : Env} {s : State} {m : MethodId} {args : Array Value} {below : List Frame} {meth : Method} {c : Code} {D : va_G} {dA : Nat → ClassId} {o : Nat → Nat} {A : Nat → Prop} {post : Int32 → CS → Prop} {T7 : Int32 → CS → Prop} {T38 : Int32 → CS → Prop} (C : cC RX1 p m c cX1_find 2 s args meth (Option.some Jvm.ClassFile.FieldType.int) A) (hT7 : ∀ (x1 : Int32) (S : CS), T7 x1 S → ∀ (H : Heap) (locs : List Loc) (ls : Array Slot), lv_has ls 2 [(0, .ref (o 3)), (1, .int x1)] → cw D dA o A s S H locs → W p l e (rC_findS3) s m args below meth c H locs 0 0 (cQi below args s D dA o A (rC_findS3) post) (F0 m 7 ls [])) (hT38 : ∀ (x1 : Int32) (S : CS), T38 x1 S → ∀ (H : Heap) (locs : List Loc) (ls : Array Slot), lv_has ls 2 [(0, .ref (o 3)), (1, .int x1)] → cw D dA o A s S H locs → W p l e (rC_findS3) s m args below meth c H locs 0 0 (cQi below args s D dA o A (rC_findS3) post) (F0 m 38 ls [])) {x1 : Int32} {S : CS} (h : C_findS3_w38 post T7 T38 x1 S) {H : Heap} {locs : List Loc} {ls : Array Slot} (hl : lv_has ls 2 [(0, .ref (o 3)), (1, .int x1)]) (w : cw D dA o A s S H locs) : W p l e (rC_findS3) s m args below meth c H locs 0 0 (cQi below args s D dA o A (rC_findS3) post) (F0 m 38 ls []) := by
  unfold C_findS3_w38 at h
  obtain ⟨⟨hx, hb, hml, hown, hts⟩, hr, hlk, hA⟩ := id C
  refine lv_iload_n hx hb dX1_find_38 rfl (lv_at hl 1 rfl) ?_
  refine lv_aload_n hx hb dX1_find_39 rfl (lv_at hl 0 rfl) ?_
  refine cr_get C w 2 rfl rfl in_X3' 3 (by decide) q118 rfl rfl dX1_find_40 ?_
  refine cr_getN C w 0 rfl rfl in_X0 1 (by decide) nwF_RX1_26 rfl rfl dX1_find_43 ?_
  refine lv_aload_n hx hb dX1_find_46 rfl (lv_at hl 0 rfl) ?_
  refine cr_get C w 2 rfl rfl in_X3' 0 (by decide) q113 rfl rfl dX1_find_47 ?_
  refine lv_imul hx hb dX1_find_50 ?_
  obtain ⟨h1, h2⟩ := h
  refine lv_icmp_ge (tgt := 89) hx hb dX1_find_51 (by decide) (fun c1 => ?_) (fun c1 => ?_)
  · have h := h1 c1
    refine lv_aload_n hx hb dX1_find_89 rfl (lv_at hl 0 rfl) ?_
    refine cr_get C w 2 rfl rfl in_X3' 2 (by decide) q115 rfl rfl dX1_find_90 ?_
    exact cr_iret C w h (Nat.le_of_ble_eq_true rfl) (Nat.le_of_ble_eq_true rfl) dX1_find_93
  · have h := h2 c1
    refine lv_aload_n hx hb dX1_find_54 rfl (lv_at hl 0 rfl) ?_
    refine cr_get C w 2 rfl rfl in_X3' 1 (by decide) q114 rfl rfl dX1_find_55 ?_
    refine lv_iload_n hx hb dX1_find_58 rfl (lv_at hl 1 rfl) ?_
    obtain ⟨hi, h⟩ := h
    refine cr_iald C w 15 rfl hi dX1_find_59 ?_
    refine lv_iconst (v := -1) hx hb dX1_find_60 (by decide) ?_
    obtain ⟨h1, h2⟩ := h
    refine lv_icmp_ne (tgt := 83) hx hb dX1_find_61 (by decide) (fun c1 => ?_) (fun c1 => ?_)
    · have h := h1 c1
      exact C_findS3_a83 C hT7 hT38 h (lv_sub hl [0, 1] rfl) w
    · have h := h2 c1
      refine lv_aload_n hx hb dX1_find_64 rfl (lv_at hl 0 rfl) ?_
      refine lv_iload_n hx hb dX1_find_65 rfl (lv_at hl 1 rfl) ?_
      refine lv_aload_n hx hb dX1_find_66 rfl (lv_at hl 0 rfl) ?_
      refine cr_get C w 2 rfl rfl in_X3' 2 (by decide) q115 rfl rfl dX1_find_67 ?_
      refine cr_callUV (owner := RX1) (rest := []) (b := fun o => o 3) C w h (recv3 w) (cr_cuSpread C w nwS_3 2 q295 q935 q297 q83 q298 rfl rfl (by decide +kernel) ⟨Nat.le_of_ble_eq_true rfl, Nat.le_of_ble_eq_true rfl⟩) rfl hl.1 rfl (Nat.le_of_ble_eq_true rfl) ⟨Nat.le_of_ble_eq_true rfl, Nat.le_of_ble_eq_true rfl⟩ dX1_find_70 (fun S1 H locs h w => ?_)
      refine lv_aload_n hx hb dX1_find_73 rfl (lv_at hl 0 rfl) ?_
      refine lv_dup hx hb dX1_find_74 rfl ?_
      refine cr_get C w 2 rfl rfl in_X3' 2 (by decide) q115 rfl rfl dX1_find_75 ?_
      refine lv_iconst (v := 1) hx hb dX1_find_78 (by decide) ?_
      refine lv_iadd hx hb dX1_find_79 ?_
      refine cr_putM C w 2 3 rfl rfl in_X3' tyX3 tyX3_ok' nmX3' rfl rfl q115 CWm_3 dX1_find_80 (fun H locs w => ?_)
      exact C_findS3_a83 C hT7 hT38 h (lv_sub hl [0, 1] rfl) w
def C_findS3_w7 (post : Int32 → CS → Prop) (T7 : Int32 → CS → Prop) (T38 : Int32 → CS → Prop) (x1 : Int32) (S : CS) : Prop :=
  ((((kF S 1) * (6 : Int32)) ≤ x1 → T38 (0 : Int32) S) ∧ (¬ ((kF S 1) * (6 : Int32)) ≤ x1 → (vp_in x1 18 ∧ (fun (S1 : CS) => T7 (x1 + (1 : Int32)) S1) (tI S 33 (x1).toNatClampNeg (-1 : Int32)))))
set_option maxHeartbeats 4000000 in
set_option maxRecDepth 100000 in
theorem C_findS3_a7 {p : Program} {l : Launch} {e : Env} {s : State} {m : MethodId} {args : Array Value} {below : List Frame} {meth : Method} {c : Code} {D : va_G} {dA : Nat → ClassId} {o : Nat → Nat} {A : Nat → Prop} {post : Int32 → CS → Prop} {T7 : Int32 → CS → Prop} {T38 : Int32 → CS → Prop} (C : cC RX1 p m c cX1_find 2 s args meth (Option.some Jvm.ClassFile.FieldType.int) A) (hT7 : ∀ (x1 : Int32) (S : CS), T7 x1 S → ∀ (H : Heap) (locs : List Loc) (ls : Array Slot), lv_has ls 2 [(0, .ref (o 3)), (1, .int x1)] → cw D dA o A s S H locs → W p l e (rC_findS3) s m args below meth c H locs 0 0 (cQi below args s D dA o A (rC_findS3) post) (F0 m 7 ls [])) (hT38 : ∀ (x1 : Int32) (S : CS), T38 x1 S → ∀ (H : Heap) (locs : List Loc) (ls : Array Slot), lv_has ls 2 [(0, .ref (o 3)), (1, .int x1)] → cw D dA o A s S H locs → W p l e (rC_findS3) s m args below meth c H locs 0 0 (cQi below args s D dA o A (rC_findS3) post) (F0 m 38 ls [])) {x1 : Int32} {S : CS} (h : C_findS3_w7 post T7 T38 x1 S) {H : Heap} {locs : List Loc} {ls : Array Slot} (hl : lv_has ls 2 [(0, .ref (o 3)), (1, .int x1)]) (w : cw D dA o A s S H locs) : W p l e (rC_findS3) s m args below meth c H locs 0 0 (cQi below args s D dA o A (rC_findS3) post) (F0 m 7 ls []) := by
  unfold C_findS3_w7 at h
  obtain ⟨⟨hx, hb, hml, hown, hts⟩, hr, hlk, hA⟩ := id C
  refine lv_iload_n hx hb dX1_find_7 rfl (lv_at hl 1 rfl) ?_
  refine lv_aload_n hx hb dX1_find_8 rfl (lv_at hl 0 rfl) ?_
  refine cr_get C w 2 rfl rfl in_X3' 3 (by decide) q118 rfl rfl dX1_find_9 ?_
  refine cr_getN C w 0 rfl rfl in_X0 1 (by decide) nwF_RX1_26 rfl rfl dX1_find_12 ?_
  refine lv_aload_n hx hb dX1_find_15 rfl (lv_at hl 0 rfl) ?_
  refine cr_get C w 2 rfl rfl in_X3' 0 (by decide) q113 rfl rfl dX1_find_16 ?_
  refine lv_imul hx hb dX1_find_19 ?_
  obtain ⟨h1, h2⟩ := h
  refine lv_icmp_ge (tgt := 36) hx hb dX1_find_20 (by decide) (fun c1 => ?_) (fun c1 => ?_)
  · have h := h1 c1
    refine lv_iconst (v := 0) hx hb dX1_find_36 (by decide) ?_
    refine lv_istore_n (lv' := [(1, .int _), (0, .ref _)]) hx hb dX1_find_37 rfl hl (by decide) rfl (fun ls hl => ?_)
    exact hT38 _ _ h _ _ _ (lv_sub hl [1, 0] rfl) w
  · have h := h2 c1
    refine lv_aload_n hx hb dX1_find_23 rfl (lv_at hl 0 rfl) ?_
    refine cr_get C w 2 rfl rfl in_X3' 1 (by decide) q114 rfl rfl dX1_find_24 ?_
    refine lv_iload_n hx hb dX1_find_27 rfl (lv_at hl 1 rfl) ?_
    refine lv_iconst (v := -1) hx hb dX1_find_28 (by decide) ?_
    obtain ⟨hi, h⟩ := h
    refine cr_iast C w 15 rfl hi CWs_33 dX1_find_29 (fun H locs w => ?_)
    refine lv_iinc (v := _ + (1 : Int32)) (lv' := [(1, .int _), (0, .ref _)]) hx hb dX1_find_30 hl (k := 1) rfl rfl (by decide) rfl (fun ls hl => ?_)
    refine lv_goto (tgt := 7) hx hb dX1_find_33 (by decide) ?_
    exact hT7 _ _ h _ _ _ (lv_sub hl [1, 0] rfl) w
def C_findS3_w0 (post : Int32 → CS → Prop) (T7 : Int32 → CS → Prop) (T38 : Int32 → CS → Prop) (S : CS) : Prop :=
  (fun (S1 : CS) => T7 (0 : Int32) S1) (tF S 43 (0 : Int32))
set_option maxHeartbeats 4000000 in
set_option maxRecDepth 100000 in
theorem C_findS3_a0 {p : Program} {l : Launch} {e : Env} {s : State} {m : MethodId} {args : Array Value} {below : List Frame} {meth : Method} {c : Code} {D : va_G} {dA : Nat → ClassId} {o : Nat → Nat} {A : Nat → Prop} {post : Int32 → CS → Prop} {T7 : Int32 → CS → Prop} {T38 : Int32 → CS → Prop} (C : cC RX1 p m c cX1_find 2 s args meth (Option.some Jvm.ClassFile.FieldType.int) A) (hT7 : ∀ (x1 : Int32) (S : CS), T7 x1 S → ∀ (H : Heap) (locs : List Loc) (ls : Array Slot), lv_has ls 2 [(0, .ref (o 3)), (1, .int x1)] → cw D dA o A s S H locs → W p l e (rC_findS3) s m args below meth c H locs 0 0 (cQi below args s D dA o A (rC_findS3) post) (F0 m 7 ls [])) (hT38 : ∀ (x1 : Int32) (S : CS), T38 x1 S → ∀ (H : Heap) (locs : List Loc) (ls : Array Slot), lv_has ls 2 [(0, .ref (o 3)), (1, .int x1)] → cw D dA o A s S H locs → W p l e (rC_findS3) s m args below meth c H locs 0 0 (cQi below args s D dA o A (rC_findS3) post) (F0 m 38 ls [])) {S : CS} (h : C_findS3_w0 post T7 T38 S) {H : Heap} {locs : List Loc} {ls : Array Slot} (hl : lv_has ls 2 [(0, .ref (o 3))]) (w : cw D dA o A s S H locs) : W p l e (rC_findS3) s m args below meth c H locs 0 0 (cQi below args s D dA o A (rC_findS3) post) (F0 m 0 ls []) := by
  unfold C_findS3_w0 at h
  obtain ⟨⟨hx, hb, hml, hown, hts⟩, hr, hlk, hA⟩ := id C
  refine lv_aload_n hx hb dX1_find_0 rfl (lv_at hl 0 rfl) ?_
  refine lv_iconst (v := 0) hx hb dX1_find_1 (by decide) ?_
  refine cr_putM C w 2 3 rfl rfl in_X3' tyX3 tyX3_ok' nmX3' rfl rfl q115 CWm_3 dX1_find_2 (fun H locs w => ?_)
  refine lv_iconst (v := 0) hx hb dX1_find_5 (by decide) ?_
  refine lv_istore_n (lv' := [(1, .int _), (0, .ref _)]) hx hb dX1_find_6 rfl hl (by decide) rfl (fun ls hl => ?_)
  exact hT7 _ _ h _ _ _ (lv_sub hl [1, 0] rfl) w
def C_findS3_VC (S : CS) (post : Int32 → CS → Prop) : Prop := ∀ (T7 : Int32 → CS → Prop) (T38 : Int32 → CS → Prop), (∀ (x1 : Int32) (S : CS), C_findS3_w7 post T7 T38 x1 S → T7 x1 S) → (∀ (x1 : Int32) (S : CS), C_findS3_w38 post T7 T38 x1 S → T38 x1 S) → C_findS3_w0 post T7 T38 S
theorem C_findS3_ok {S : CS} {post : Int32 → CS → Prop} (h : C_findS3_VC S post) : C_findS3 S post := by
  intro l D dA o sz
  refine cr_start (fun A => va_Qi post (cB D dA o A) A) rfl (Nat.le_of_ble_eq_true rfl) (by decide) ?_
  intro p e s m args below meth c ls A C w hl
  have hl : lv_has ls 2 [(0, .ref (o 3))] := hl
  have h := h (fun (x1 : Int32) S => ∀ (H : Heap) (locs : List Loc) (ls : Array Slot), lv_has ls 2 [(0, .ref (o 3)), (1, .int x1)] → cw D dA o A s S H locs → W p l e (rC_findS3) s m args below meth c H locs 0 0 (cQi below args s D dA o A (rC_findS3) post) (F0 m 7 ls [])) (fun (x1 : Int32) S => ∀ (H : Heap) (locs : List Loc) (ls : Array Slot), lv_has ls 2 [(0, .ref (o 3)), (1, .int x1)] → cw D dA o A s S H locs → W p l e (rC_findS3) s m args below meth c H locs 0 0 (cQi below args s D dA o A (rC_findS3) post) (F0 m 38 ls [])) (fun _ S h H locs ls hl w => C_findS3_a7 C (fun _ _ h => h) (fun _ _ h => h) h hl w) (fun _ S h H locs ls hl w => C_findS3_a38 C (fun _ _ h => h) (fun _ _ h => h) h hl w)
  exact C_findS3_a0 C (fun _ _ h => h) (fun _ _ h => h) h (lv_sub hl [0] rfl) w

/-! ThirdSheets$Sort.of(II)I -/
def C_ofS2_w0 (post : Int32 → CS → Prop) (x1 : Int32) (x2 : Int32) (S : CS) : Prop :=
  (vp_in ((x1 * (4 : Int32)) + x2) 12 ∧ post (kI S 32 (((x1 * (4 : Int32)) + x2)).toNatClampNeg) S)
set_option maxHeartbeats 4000000 in
set_option maxRecDepth 100000 in
theorem C_ofS2_a0 {p : Program} {l : Launch} {e : Env} {s : State} {m : MethodId} {args : Array Value} {below : List Frame} {meth : Method} {c : Code} {D : va_G} {dA : Nat → ClassId} {o : Nat → Nat} {A : Nat → Prop} {post : Int32 → CS → Prop} (C : cC RX1 p m c cX1_of 3 s args meth (Option.some Jvm.ClassFile.FieldType.int) A) {x1 : Int32} {x2 : Int32} {S : CS} (h : C_ofS2_w0 post x1 x2 S) {H : Heap} {locs : List Loc} {ls : Array Slot} (hl : lv_has ls 3 [(0, .ref (o 2)), (1, .int x1), (2, .int x2)]) (w : cw D dA o A s S H locs) : W p l e (rC_ofS2) s m args below meth c H locs 0 0 (cQi below args s D dA o A (rC_ofS2) post) (F0 m 0 ls []) := by
  unfold C_ofS2_w0 at h
  obtain ⟨⟨hx, hb, hml, hown, hts⟩, hr, hlk, hA⟩ := id C
  refine lv_aload_n hx hb dX1_of_0 rfl (lv_at hl 0 rfl) ?_
  refine cr_get C w 1 rfl rfl in_X2' 1 (by decide) q114 rfl rfl dX1_of_1 ?_
  refine lv_iload_n hx hb dX1_of_4 rfl (lv_at hl 1 rfl) ?_
  refine lv_aload_n hx hb dX1_of_5 rfl (lv_at hl 0 rfl) ?_
  refine cr_get C w 1 rfl rfl in_X2' 0 (by decide) q113 rfl rfl dX1_of_6 ?_
  refine lv_imul hx hb dX1_of_9 ?_
  refine lv_iload_n hx hb dX1_of_10 rfl (lv_at hl 2 rfl) ?_
  refine lv_iadd hx hb dX1_of_11 ?_
  obtain ⟨hi, h⟩ := h
  refine cr_iald C w 14 rfl hi dX1_of_12 ?_
  exact cr_iret C w h (Nat.le_of_ble_eq_true rfl) (Nat.le_of_ble_eq_true rfl) dX1_of_13
def C_ofS2_VC (x1 : Int32) (x2 : Int32) (S : CS) (post : Int32 → CS → Prop) : Prop := C_ofS2_w0 post x1 x2 S
theorem C_ofS2_ok {x1 : Int32} {x2 : Int32} {S : CS} {post : Int32 → CS → Prop} (h : C_ofS2_VC x1 x2 S post) : C_ofS2 x1 x2 S post := by
  intro l D dA o sz
  refine cr_start (fun A => va_Qi post (cB D dA o A) A) rfl (Nat.le_of_ble_eq_true rfl) (by decide) ?_
  intro p e s m args below meth c ls A C w hl
  have hl : lv_has ls 3 [(0, .ref (o 2)), (1, .int x1), (2, .int x2)] := hl
  exact C_ofS2_a0 C h (lv_sub hl [0, 1, 2] rfl) w

/-! ThirdSheets$Sort.of(II)I -/
def C_ofS3_w0 (post : Int32 → CS → Prop) (x1 : Int32) (x2 : Int32) (S : CS) : Prop :=
  (vp_in ((x1 * (6 : Int32)) + x2) 18 ∧ post (kI S 33 (((x1 * (6 : Int32)) + x2)).toNatClampNeg) S)
set_option maxHeartbeats 4000000 in
set_option maxRecDepth 100000 in
theorem C_ofS3_a0 {p : Program} {l : Launch} {e : Env} {s : State} {m : MethodId} {args : Array Value} {below : List Frame} {meth : Method} {c : Code} {D : va_G} {dA : Nat → ClassId} {o : Nat → Nat} {A : Nat → Prop} {post : Int32 → CS → Prop} (C : cC RX1 p m c cX1_of 3 s args meth (Option.some Jvm.ClassFile.FieldType.int) A) {x1 : Int32} {x2 : Int32} {S : CS} (h : C_ofS3_w0 post x1 x2 S) {H : Heap} {locs : List Loc} {ls : Array Slot} (hl : lv_has ls 3 [(0, .ref (o 3)), (1, .int x1), (2, .int x2)]) (w : cw D dA o A s S H locs) : W p l e (rC_ofS3) s m args below meth c H locs 0 0 (cQi below args s D dA o A (rC_ofS3) post) (F0 m 0 ls []) := by
  unfold C_ofS3_w0 at h
  obtain ⟨⟨hx, hb, hml, hown, hts⟩, hr, hlk, hA⟩ := id C
  refine lv_aload_n hx hb dX1_of_0 rfl (lv_at hl 0 rfl) ?_
  refine cr_get C w 2 rfl rfl in_X3' 1 (by decide) q114 rfl rfl dX1_of_1 ?_
  refine lv_iload_n hx hb dX1_of_4 rfl (lv_at hl 1 rfl) ?_
  refine lv_aload_n hx hb dX1_of_5 rfl (lv_at hl 0 rfl) ?_
  refine cr_get C w 2 rfl rfl in_X3' 0 (by decide) q113 rfl rfl dX1_of_6 ?_
  refine lv_imul hx hb dX1_of_9 ?_
  refine lv_iload_n hx hb dX1_of_10 rfl (lv_at hl 2 rfl) ?_
  refine lv_iadd hx hb dX1_of_11 ?_
  obtain ⟨hi, h⟩ := h
  refine cr_iald C w 15 rfl hi dX1_of_12 ?_
  exact cr_iret C w h (Nat.le_of_ble_eq_true rfl) (Nat.le_of_ble_eq_true rfl) dX1_of_13
def C_ofS3_VC (x1 : Int32) (x2 : Int32) (S : CS) (post : Int32 → CS → Prop) : Prop := C_ofS3_w0 post x1 x2 S
theorem C_ofS3_ok {x1 : Int32} {x2 : Int32} {S : CS} {post : Int32 → CS → Prop} (h : C_ofS3_VC x1 x2 S post) : C_ofS3 x1 x2 S post := by
  intro l D dA o sz
  refine cr_start (fun A => va_Qi post (cB D dA o A) A) rfl (Nat.le_of_ble_eq_true rfl) (by decide) ?_
  intro p e s m args below meth c ls A C w hl
  have hl : lv_has ls 3 [(0, .ref (o 3)), (1, .int x1), (2, .int x2)] := hl
  exact C_ofS3_a0 C h (lv_sub hl [0, 1, 2] rfl) w

/-! ThirdSheets.classOf(III)I -/
def C_classOf_w95 (post : Int32 → CS → Prop) (v0 : Int32) (S : CS) : Prop :=
  post v0 S
set_option maxHeartbeats 4000000 in
set_option maxRecDepth 100000 in
theorem C_classOf_a95 {p : Program} {l : Launch} {e : Env} {s : State} {m : MethodId} {args : Array Value} {below : List Frame} {meth : Method} {c : Code} {D : va_G} {dA : Nat → ClassId} {o : Nat → Nat} {A : Nat → Prop} {post : Int32 → CS → Prop} (C : cC RX0 p m c cX0_classOf 5 s args meth (Option.some Jvm.ClassFile.FieldType.int) A) {v0 : Int32} {S : CS} (h : C_classOf_w95 post v0 S) {H : Heap} {locs : List Loc} {ls : Array Slot} (hl : lv_has ls 5 [(0, .ref (o 0))]) (w : cw D dA o A s S H locs) : W p l e (rC_classOf) s m args below meth c H locs 0 0 (cQi below args s D dA o A (rC_classOf) post) (F0 m 95 ls [.int v0]) := by
  unfold C_classOf_w95 at h
  obtain ⟨⟨hx, hb, hml, hown, hts⟩, hr, hlk, hA⟩ := id C
  exact cr_iret C w h (Nat.le_of_ble_eq_true rfl) (Nat.le_of_ble_eq_true rfl) dX0_classOf_95
def C_classOf_w58 (post : Int32 → CS → Prop) (v0 : Int32) (x1 : Int32) (x2 : Int32) (x3 : Int32) (S : CS) : Prop :=
  ((¬ v0 = 0 → ((¬ x1 = 0 → C_ofS3 x2 x3 S (fun (r1 : Int32) (S1 : CS) => C_classOf_w95 post r1 S1)) ∧ (x1 = 0 → C_ofS2 x2 x3 S (fun (r2 : Int32) (S2 : CS) => C_classOf_w95 post r2 S2)))) ∧ (v0 = 0 → C_classOf_w95 post (-2 : Int32) S))
set_option maxHeartbeats 4000000 in
set_option maxRecDepth 100000 in
theorem C_classOf_a58 {p : Program} {l : Launch} {e : Env} {s : State} {m : MethodId} {args : Array Value} {below : List Frame} {meth : Method} {c : Code} {D : va_G} {dA : Nat → ClassId} {o : Nat → Nat} {A : Nat → Prop} {post : Int32 → CS → Prop} (C : cC RX0 p m c cX0_classOf 5 s args meth (Option.some Jvm.ClassFile.FieldType.int) A) {v0 : Int32} {x1 : Int32} {x2 : Int32} {x3 : Int32} {S : CS} (h : C_classOf_w58 post v0 x1 x2 x3 S) {H : Heap} {locs : List Loc} {ls : Array Slot} (hl : lv_has ls 5 [(0, .ref (o 0)), (1, .int x1), (2, .int x2), (3, .int x3)]) (w : cw D dA o A s S H locs) : W p l e (rC_classOf) s m args below meth c H locs 0 0 (cQi below args s D dA o A (rC_classOf) post) (F0 m 58 ls [.int v0]) := by
  unfold C_classOf_w58 at h
  obtain ⟨⟨hx, hb, hml, hown, hts⟩, hr, hlk, hA⟩ := id C
  refine lv_istore (lv' := [(4, .int _), (0, .ref _), (1, .int _), (2, .int _), (3, .int _)]) hx hb dX0_classOf_58 hl (by decide) rfl (fun ls hl => ?_)
  refine lv_iload hx hb dX0_classOf_60 (lv_at hl 0 rfl) ?_
  obtain ⟨h1, h2⟩ := h
  refine lv_if_ne (tgt := 70) hx hb dX0_classOf_62 (by decide) (fun c1 => ?_) (fun c1 => ?_)
  · have h := h1 c1
    refine lv_iload_n hx hb dX0_classOf_70 rfl (lv_at hl 2 rfl) ?_
    obtain ⟨h1, h2⟩ := h
    refine lv_if_ne (tgt := 86) hx hb dX0_classOf_71 (by decide) (fun c1 => ?_) (fun c1 => ?_)
    · have h := h1 c1
      refine lv_aload_n hx hb dX0_classOf_86 rfl (lv_at hl 1 rfl) ?_
      refine cr_get C w 0 rfl rfl in_X0 3 (by decide) q167 rfl rfl dX0_classOf_87 ?_
      refine lv_iload_n hx hb dX0_classOf_90 rfl (lv_at hl 3 rfl) ?_
      refine lv_iload_n hx hb dX0_classOf_91 rfl (lv_at hl 4 rfl) ?_
      refine cr_callUI (owner := RX1) (rest := []) (b := fun o => o 3) C w h (recv3 w) (va_cwU 2 hts (lw_U q335 q336 q337 q333 q83 q334) rfl rfl rfl rfl (by decide +kernel) ⟨Nat.le_of_ble_eq_true rfl, Nat.le_of_ble_eq_true rfl⟩) rfl hl.1 rfl (Nat.le_of_ble_eq_true rfl) ⟨Nat.le_of_ble_eq_true rfl, Nat.le_of_ble_eq_true rfl⟩ dX0_classOf_92 (fun r1 S1 H locs h w => ?_)
      exact C_classOf_a95 C h (lv_sub hl [1] rfl) w
    · have h := h2 c1
      refine lv_aload_n hx hb dX0_classOf_74 rfl (lv_at hl 1 rfl) ?_
      refine cr_get C w 0 rfl rfl in_X0 2 (by decide) q166 rfl rfl dX0_classOf_75 ?_
      refine lv_iload_n hx hb dX0_classOf_78 rfl (lv_at hl 3 rfl) ?_
      refine lv_iload_n hx hb dX0_classOf_79 rfl (lv_at hl 4 rfl) ?_
      refine cr_callUI (owner := RX1) (rest := []) (b := fun o => o 2) C w h (recv2 w) (va_cwU 2 hts (lw_U q329 q330 q332 q333 q83 q334) rfl rfl rfl rfl (by decide +kernel) ⟨Nat.le_of_ble_eq_true rfl, Nat.le_of_ble_eq_true rfl⟩) rfl hl.1 rfl (Nat.le_of_ble_eq_true rfl) ⟨Nat.le_of_ble_eq_true rfl, Nat.le_of_ble_eq_true rfl⟩ dX0_classOf_80 (fun r2 S2 H locs h w => ?_)
      refine lv_goto (tgt := 95) hx hb dX0_classOf_83 (by decide) ?_
      exact C_classOf_a95 C h (lv_sub hl [1] rfl) w
  · have h := h2 c1
    refine lv_bipush (v := -2) hx hb dX0_classOf_65 (by decide) ?_
    refine lv_goto (tgt := 95) hx hb dX0_classOf_67 (by decide) ?_
    exact C_classOf_a95 C h (lv_sub hl [1] rfl) w
def C_classOf_w34 (post : Int32 → CS → Prop) (S : CS) : Prop :=
  post (-2 : Int32) S
set_option maxHeartbeats 4000000 in
set_option maxRecDepth 100000 in
theorem C_classOf_a34 {p : Program} {l : Launch} {e : Env} {s : State} {m : MethodId} {args : Array Value} {below : List Frame} {meth : Method} {c : Code} {D : va_G} {dA : Nat → ClassId} {o : Nat → Nat} {A : Nat → Prop} {post : Int32 → CS → Prop} (C : cC RX0 p m c cX0_classOf 5 s args meth (Option.some Jvm.ClassFile.FieldType.int) A) {S : CS} (h : C_classOf_w34 post S) {H : Heap} {locs : List Loc} {ls : Array Slot} (hl : lv_has ls 5 [(0, .ref (o 0))]) (w : cw D dA o A s S H locs) : W p l e (rC_classOf) s m args below meth c H locs 0 0 (cQi below args s D dA o A (rC_classOf) post) (F0 m 34 ls []) := by
  unfold C_classOf_w34 at h
  obtain ⟨⟨hx, hb, hml, hown, hts⟩, hr, hlk, hA⟩ := id C
  refine lv_bipush (v := -2) hx hb dX0_classOf_34 (by decide) ?_
  exact cr_iret C w h (Nat.le_of_ble_eq_true rfl) (Nat.le_of_ble_eq_true rfl) dX0_classOf_36
def C_classOf_w28 (post : Int32 → CS → Prop) (v0 : Int32) (v1 : Int32) (v2 : Int32) (x1 : Int32) (x2 : Int32) (x3 : Int32) (S : CS) : Prop :=
  C_isIn v2 v1 v0 S (fun (r1 : Int32) (S1 : CS) => ((¬ r1 = 0 → ((¬ x1 = 0 → C_findS3 S1 (fun (r2 : Int32) (S2 : CS) => C_classOf_w58 post r2 x1 x2 x3 S2)) ∧ (x1 = 0 → C_findS2 S1 (fun (r3 : Int32) (S3 : CS) => C_classOf_w58 post r3 x1 x2 x3 S3)))) ∧ (r1 = 0 → C_classOf_w34 post S1)))
set_option maxHeartbeats 4000000 in
set_option maxRecDepth 100000 in
theorem C_classOf_a28 {p : Program} {l : Launch} {e : Env} {s : State} {m : MethodId} {args : Array Value} {below : List Frame} {meth : Method} {c : Code} {D : va_G} {dA : Nat → ClassId} {o : Nat → Nat} {A : Nat → Prop} {post : Int32 → CS → Prop} (C : cC RX0 p m c cX0_classOf 5 s args meth (Option.some Jvm.ClassFile.FieldType.int) A) {v0 : Int32} {v1 : Int32} {v2 : Int32} {x1 : Int32} {x2 : Int32} {x3 : Int32} {S : CS} (h : C_classOf_w28 post v0 v1 v2 x1 x2 x3 S) {H : Heap} {locs : List Loc} {ls : Array Slot} (hl : lv_has ls 5 [(0, .ref (o 0)), (1, .int x1), (2, .int x2), (3, .int x3)]) (w : cw D dA o A s S H locs) : W p l e (rC_classOf) s m args below meth c H locs 0 0 (cQi below args s D dA o A (rC_classOf) post) (F0 m 28 ls [.int v0, .int v1, .int v2]) := by
  unfold C_classOf_w28 at h
  obtain ⟨⟨hx, hb, hml, hown, hts⟩, hr, hlk, hA⟩ := id C
  refine cr_callSI (rest := []) C w h (va_cwS 3 hts (lw_S q244 q245 q82 q246) rfl rfl rfl C_isIn_d ⟨Nat.le_of_ble_eq_true rfl, Nat.le_of_ble_eq_true rfl⟩) rfl hl.1 rfl (Nat.le_of_ble_eq_true rfl) ⟨Nat.le_of_ble_eq_true rfl, Nat.le_of_ble_eq_true rfl⟩ dX0_classOf_28 (fun r1 S1 H locs h w => ?_)
  obtain ⟨h1, h2⟩ := h
  refine lv_if_ne (tgt := 37) hx hb dX0_classOf_31 (by decide) (fun c1 => ?_) (fun c1 => ?_)
  · have h := h1 c1
    refine lv_iload_n hx hb dX0_classOf_37 rfl (lv_at hl 1 rfl) ?_
    obtain ⟨h1, h2⟩ := h
    refine lv_if_ne (tgt := 51) hx hb dX0_classOf_38 (by decide) (fun c1 => ?_) (fun c1 => ?_)
    · have h := h1 c1
      refine lv_aload_n hx hb dX0_classOf_51 rfl (lv_at hl 0 rfl) ?_
      refine cr_get C w 0 rfl rfl in_X0 3 (by decide) q167 rfl rfl dX0_classOf_52 ?_
      refine cr_callUI (owner := RX1) (rest := []) (b := fun o => o 3) C w h (recv3 w) (va_cwU 0 hts (lw_U q326 q327 q328 q293 q83 q294) rfl rfl rfl rfl (by decide +kernel) ⟨Nat.le_of_ble_eq_true rfl, Nat.le_of_ble_eq_true rfl⟩) rfl hl.1 rfl (Nat.le_of_ble_eq_true rfl) ⟨Nat.le_of_ble_eq_true rfl, Nat.le_of_ble_eq_true rfl⟩ dX0_classOf_55 (fun r2 S2 H locs h w => ?_)
      exact C_classOf_a58 C h (lv_sub hl [0, 1, 2, 3] rfl) w
    · have h := h2 c1
      refine lv_aload_n hx hb dX0_classOf_41 rfl (lv_at hl 0 rfl) ?_
      refine cr_get C w 0 rfl rfl in_X0 2 (by decide) q166 rfl rfl dX0_classOf_42 ?_
      refine cr_callUI (owner := RX1) (rest := []) (b := fun o => o 2) C w h (recv2 w) (va_cwU 0 hts (lw_U q289 q290 q292 q293 q83 q294) rfl rfl rfl rfl (by decide +kernel) ⟨Nat.le_of_ble_eq_true rfl, Nat.le_of_ble_eq_true rfl⟩) rfl hl.1 rfl (Nat.le_of_ble_eq_true rfl) ⟨Nat.le_of_ble_eq_true rfl, Nat.le_of_ble_eq_true rfl⟩ dX0_classOf_45 (fun r3 S3 H locs h w => ?_)
      refine lv_goto (tgt := 58) hx hb dX0_classOf_48 (by decide) ?_
      exact C_classOf_a58 C h (lv_sub hl [0, 1, 2, 3] rfl) w
  · have h := h2 c1
    exact C_classOf_a34 C h (lv_sub hl [0] rfl) w
def C_classOf_w0 (post : Int32 → CS → Prop) (x1 : Int32) (x2 : Int32) (x3 : Int32) (S : CS) : Prop :=
  C_isIn x1 (0 : Int32) (1 : Int32) S (fun (r1 : Int32) (S1 : CS) => ((r1 = 0 → C_classOf_w34 post S1) ∧ (¬ r1 = 0 → C_isPiece x2 S1 (fun (r2 : Int32) (S2 : CS) => ((r2 = 0 → C_classOf_w34 post S2) ∧ (¬ r2 = 0 → ((¬ x1 = 0 → C_classOf_w28 post (5 : Int32) (0 : Int32) x3 x1 x2 x3 S2) ∧ (x1 = 0 → C_classOf_w28 post (3 : Int32) (0 : Int32) x3 x1 x2 x3 S2))))))))
set_option maxHeartbeats 4000000 in
set_option maxRecDepth 100000 in
theorem C_classOf_a0 {p : Program} {l : Launch} {e : Env} {s : State} {m : MethodId} {args : Array Value} {below : List Frame} {meth : Method} {c : Code} {D : va_G} {dA : Nat → ClassId} {o : Nat → Nat} {A : Nat → Prop} {post : Int32 → CS → Prop} (C : cC RX0 p m c cX0_classOf 5 s args meth (Option.some Jvm.ClassFile.FieldType.int) A) {x1 : Int32} {x2 : Int32} {x3 : Int32} {S : CS} (h : C_classOf_w0 post x1 x2 x3 S) {H : Heap} {locs : List Loc} {ls : Array Slot} (hl : lv_has ls 5 [(0, .ref (o 0)), (1, .int x1), (2, .int x2), (3, .int x3)]) (w : cw D dA o A s S H locs) : W p l e (rC_classOf) s m args below meth c H locs 0 0 (cQi below args s D dA o A (rC_classOf) post) (F0 m 0 ls []) := by
  unfold C_classOf_w0 at h
  obtain ⟨⟨hx, hb, hml, hown, hts⟩, hr, hlk, hA⟩ := id C
  refine lv_iload_n hx hb dX0_classOf_0 rfl (lv_at hl 1 rfl) ?_
  refine lv_iconst (v := 0) hx hb dX0_classOf_1 (by decide) ?_
  refine lv_iconst (v := 1) hx hb dX0_classOf_2 (by decide) ?_
  refine cr_callSI (rest := []) C w h (va_cwS 3 hts (lw_S q244 q245 q82 q246) rfl rfl rfl C_isIn_d ⟨Nat.le_of_ble_eq_true rfl, Nat.le_of_ble_eq_true rfl⟩) rfl hl.1 rfl (Nat.le_of_ble_eq_true rfl) ⟨Nat.le_of_ble_eq_true rfl, Nat.le_of_ble_eq_true rfl⟩ dX0_classOf_3 (fun r1 S1 H locs h w => ?_)
  obtain ⟨h1, h2⟩ := h
  refine lv_if_eq (tgt := 34) hx hb dX0_classOf_6 (by decide) (fun c1 => ?_) (fun c1 => ?_)
  · have h := h1 c1
    exact C_classOf_a34 C h (lv_sub hl [0] rfl) w
  · have h := h2 c1
    refine lv_aload_n hx hb dX0_classOf_9 rfl (lv_at hl 0 rfl) ?_
    refine lv_iload_n hx hb dX0_classOf_10 rfl (lv_at hl 2 rfl) ?_
    refine cr_callVI (rest := []) (b := (fun o => o 0)) C w h (recv0 w) (cwV 1 hts (lw_V q240 q242 qs1 q82 q243) rfl rfl rfl C_isPiece_d ⟨Nat.le_of_ble_eq_true rfl, Nat.le_of_ble_eq_true rfl⟩) rfl hl.1 rfl (Nat.le_of_ble_eq_true rfl) ⟨Nat.le_of_ble_eq_true rfl, Nat.le_of_ble_eq_true rfl⟩ dX0_classOf_11 (fun r2 S2 H locs h w => ?_)
    obtain ⟨h1, h2⟩ := h
    refine lv_if_eq (tgt := 34) hx hb dX0_classOf_14 (by decide) (fun c1 => ?_) (fun c1 => ?_)
    · have h := h1 c1
      exact C_classOf_a34 C h (lv_sub hl [0] rfl) w
    · have h := h2 c1
      refine lv_iload_n hx hb dX0_classOf_17 rfl (lv_at hl 3 rfl) ?_
      refine lv_iconst (v := 0) hx hb dX0_classOf_18 (by decide) ?_
      refine lv_iload_n hx hb dX0_classOf_19 rfl (lv_at hl 1 rfl) ?_
      obtain ⟨h1, h2⟩ := h
      refine lv_if_ne (tgt := 27) hx hb dX0_classOf_20 (by decide) (fun c1 => ?_) (fun c1 => ?_)
      · have h := h1 c1
        refine lv_iconst (v := 5) hx hb dX0_classOf_27 (by decide) ?_
        exact C_classOf_a28 C h (lv_sub hl [0, 1, 2, 3] rfl) w
      · have h := h2 c1
        refine lv_iconst (v := 3) hx hb dX0_classOf_23 (by decide) ?_
        refine lv_goto (tgt := 28) hx hb dX0_classOf_24 (by decide) ?_
        exact C_classOf_a28 C h (lv_sub hl [0, 1, 2, 3] rfl) w
def C_classOf_VC (x1 : Int32) (x2 : Int32) (x3 : Int32) (S : CS) (post : Int32 → CS → Prop) : Prop := C_classOf_w0 post x1 x2 x3 S
theorem C_classOf_ok {x1 : Int32} {x2 : Int32} {x3 : Int32} {S : CS} {post : Int32 → CS → Prop} (h : C_classOf_VC x1 x2 x3 S post) : C_classOf x1 x2 x3 S post := by
  intro l D dA o sz
  refine cr_start (fun A => va_Qi post (cB D dA o A) A) rfl (Nat.le_of_ble_eq_true rfl) (by decide) ?_
  intro p e s m args below meth c ls A C w hl
  have hl : lv_has ls 5 [(0, .ref (o 0)), (1, .int x1), (2, .int x2), (3, .int x3)] := hl
  exact C_classOf_a0 C h (lv_sub hl [0, 1, 2, 3] rfl) w

/-! ThirdSheets$Sort.first(I)I -/
def C_firstS3_w2 (post : Int32 → CS → Prop) (T2 : Int32 → Int32 → CS → Prop) (x1 : Int32) (x2 : Int32) (S : CS) : Prop :=
  (vp_in x2 18 ∧ (((kI S 33 (x2).toNatClampNeg) = x1 → post x2 S) ∧ (¬ (kI S 33 (x2).toNatClampNeg) = x1 → T2 x1 (x2 + (1 : Int32)) S)))
set_option maxHeartbeats 4000000 in
set_option maxRecDepth 100000 in
theorem C_firstS3_a2 {p : Program} {l : Launch} {e : Env} {s : State} {m : MethodId} {args : Array Value} {below : List Frame} {meth : Method} {c : Code} {D : va_G} {dA : Nat → ClassId} {o : Nat → Nat} {A : Nat → Prop} {post : Int32 → CS → Prop} {T2 : Int32 → Int32 → CS → Prop} (C : cC RX1 p m c cX1_first 3 s args meth (Option.some Jvm.ClassFile.FieldType.int) A) (hT2 : ∀ (x1 : Int32) (x2 : Int32) (S : CS), T2 x1 x2 S → ∀ (H : Heap) (locs : List Loc) (ls : Array Slot), lv_has ls 3 [(0, .ref (o 3)), (1, .int x1), (2, .int x2)] → cw D dA o A s S H locs → W p l e (rC_firstS3) s m args below meth c H locs 0 0 (cQi below args s D dA o A (rC_firstS3) post) (F0 m 2 ls [])) {x1 : Int32} {x2 : Int32} {S : CS} (h : C_firstS3_w2 post T2 x1 x2 S) {H : Heap} {locs : List Loc} {ls : Array Slot} (hl : lv_has ls 3 [(0, .ref (o 3)), (1, .int x1), (2, .int x2)]) (w : cw D dA o A s S H locs) : W p l e (rC_firstS3) s m args below meth c H locs 0 0 (cQi below args s D dA o A (rC_firstS3) post) (F0 m 2 ls []) := by
  unfold C_firstS3_w2 at h
  obtain ⟨⟨hx, hb, hml, hown, hts⟩, hr, hlk, hA⟩ := id C
  refine lv_aload_n hx hb dX1_first_2 rfl (lv_at hl 0 rfl) ?_
  refine cr_get C w 2 rfl rfl in_X3' 1 (by decide) q114 rfl rfl dX1_first_3 ?_
  refine lv_iload_n hx hb dX1_first_6 rfl (lv_at hl 2 rfl) ?_
  obtain ⟨hi, h⟩ := h
  refine cr_iald C w 15 rfl hi dX1_first_7 ?_
  refine lv_iload_n hx hb dX1_first_8 rfl (lv_at hl 1 rfl) ?_
  obtain ⟨h1, h2⟩ := h
  refine lv_icmp_eq (tgt := 18) hx hb dX1_first_9 (by decide) (fun c1 => ?_) (fun c1 => ?_)
  · have h := h1 c1
    refine lv_iload_n hx hb dX1_first_18 rfl (lv_at hl 2 rfl) ?_
    exact cr_iret C w h (Nat.le_of_ble_eq_true rfl) (Nat.le_of_ble_eq_true rfl) dX1_first_19
  · have h := h2 c1
    refine lv_iinc (v := _ + (1 : Int32)) (lv' := [(2, .int _), (0, .ref _), (1, .int _)]) hx hb dX1_first_12 hl (k := 2) rfl rfl (by decide) rfl (fun ls hl => ?_)
    refine lv_goto (tgt := 2) hx hb dX1_first_15 (by decide) ?_
    exact hT2 _ _ _ h _ _ _ (lv_sub hl [1, 2, 0] rfl) w
def C_firstS3_w0 (post : Int32 → CS → Prop) (T2 : Int32 → Int32 → CS → Prop) (x1 : Int32) (S : CS) : Prop :=
  T2 x1 (0 : Int32) S
set_option maxHeartbeats 4000000 in
set_option maxRecDepth 100000 in
theorem C_firstS3_a0 {p : Program} {l : Launch} {e : Env} {s : State} {m : MethodId} {args : Array Value} {below : List Frame} {meth : Method} {c : Code} {D : va_G} {dA : Nat → ClassId} {o : Nat → Nat} {A : Nat → Prop} {post : Int32 → CS → Prop} {T2 : Int32 → Int32 → CS → Prop} (C : cC RX1 p m c cX1_first 3 s args meth (Option.some Jvm.ClassFile.FieldType.int) A) (hT2 : ∀ (x1 : Int32) (x2 : Int32) (S : CS), T2 x1 x2 S → ∀ (H : Heap) (locs : List Loc) (ls : Array Slot), lv_has ls 3 [(0, .ref (o 3)), (1, .int x1), (2, .int x2)] → cw D dA o A s S H locs → W p l e (rC_firstS3) s m args below meth c H locs 0 0 (cQi below args s D dA o A (rC_firstS3) post) (F0 m 2 ls [])) {x1 : Int32} {S : CS} (h : C_firstS3_w0 post T2 x1 S) {H : Heap} {locs : List Loc} {ls : Array Slot} (hl : lv_has ls 3 [(0, .ref (o 3)), (1, .int x1)]) (w : cw D dA o A s S H locs) : W p l e (rC_firstS3) s m args below meth c H locs 0 0 (cQi below args s D dA o A (rC_firstS3) post) (F0 m 0 ls []) := by
  unfold C_firstS3_w0 at h
  obtain ⟨⟨hx, hb, hml, hown, hts⟩, hr, hlk, hA⟩ := id C
  refine lv_iconst (v := 0) hx hb dX1_first_0 (by decide) ?_
  refine lv_istore_n (lv' := [(2, .int _), (0, .ref _), (1, .int _)]) hx hb dX1_first_1 rfl hl (by decide) rfl (fun ls hl => ?_)
  exact hT2 _ _ _ h _ _ _ (lv_sub hl [1, 2, 0] rfl) w
def C_firstS3_VC (x1 : Int32) (S : CS) (post : Int32 → CS → Prop) : Prop := ∀ (T2 : Int32 → Int32 → CS → Prop), (∀ (x1 : Int32) (x2 : Int32) (S : CS), C_firstS3_w2 post T2 x1 x2 S → T2 x1 x2 S) → C_firstS3_w0 post T2 x1 S
theorem C_firstS3_ok {x1 : Int32} {S : CS} {post : Int32 → CS → Prop} (h : C_firstS3_VC x1 S post) : C_firstS3 x1 S post := by
  intro l D dA o sz
  refine cr_start (fun A => va_Qi post (cB D dA o A) A) rfl (Nat.le_of_ble_eq_true rfl) (by decide) ?_
  intro p e s m args below meth c ls A C w hl
  have hl : lv_has ls 3 [(0, .ref (o 3)), (1, .int x1)] := hl
  have h := h (fun (x1 : Int32) (x2 : Int32) S => ∀ (H : Heap) (locs : List Loc) (ls : Array Slot), lv_has ls 3 [(0, .ref (o 3)), (1, .int x1), (2, .int x2)] → cw D dA o A s S H locs → W p l e (rC_firstS3) s m args below meth c H locs 0 0 (cQi below args s D dA o A (rC_firstS3) post) (F0 m 2 ls [])) (fun _ _ S h H locs ls hl w => C_firstS3_a2 C (fun _ _ _ h => h) h hl w)
  exact C_firstS3_a0 C (fun _ _ _ h => h) h (lv_sub hl [0, 1] rfl) w

/-! ThirdSheets$Sort.of(II)I -/
def C_ofS4_w0 (post : Int32 → CS → Prop) (x1 : Int32) (x2 : Int32) (S : CS) : Prop :=
  (vp_in ((x1 * (12 : Int32)) + x2) 36 ∧ post (kI S 34 (((x1 * (12 : Int32)) + x2)).toNatClampNeg) S)
set_option maxHeartbeats 4000000 in
set_option maxRecDepth 100000 in
theorem C_ofS4_a0 {p : Program} {l : Launch} {e : Env} {s : State} {m : MethodId} {args : Array Value} {below : List Frame} {meth : Method} {c : Code} {D : va_G} {dA : Nat → ClassId} {o : Nat → Nat} {A : Nat → Prop} {post : Int32 → CS → Prop} (C : cC RX1 p m c cX1_of 3 s args meth (Option.some Jvm.ClassFile.FieldType.int) A) {x1 : Int32} {x2 : Int32} {S : CS} (h : C_ofS4_w0 post x1 x2 S) {H : Heap} {locs : List Loc} {ls : Array Slot} (hl : lv_has ls 3 [(0, .ref (o 4)), (1, .int x1), (2, .int x2)]) (w : cw D dA o A s S H locs) : W p l e (rC_ofS4) s m args below meth c H locs 0 0 (cQi below args s D dA o A (rC_ofS4) post) (F0 m 0 ls []) := by
  unfold C_ofS4_w0 at h
  obtain ⟨⟨hx, hb, hml, hown, hts⟩, hr, hlk, hA⟩ := id C
  refine lv_aload_n hx hb dX1_of_0 rfl (lv_at hl 0 rfl) ?_
  refine cr_get C w 3 rfl rfl in_X4' 1 (by decide) q114 rfl rfl dX1_of_1 ?_
  refine lv_iload_n hx hb dX1_of_4 rfl (lv_at hl 1 rfl) ?_
  refine lv_aload_n hx hb dX1_of_5 rfl (lv_at hl 0 rfl) ?_
  refine cr_get C w 3 rfl rfl in_X4' 0 (by decide) q113 rfl rfl dX1_of_6 ?_
  refine lv_imul hx hb dX1_of_9 ?_
  refine lv_iload_n hx hb dX1_of_10 rfl (lv_at hl 2 rfl) ?_
  refine lv_iadd hx hb dX1_of_11 ?_
  obtain ⟨hi, h⟩ := h
  refine cr_iald C w 16 rfl hi dX1_of_12 ?_
  exact cr_iret C w h (Nat.le_of_ble_eq_true rfl) (Nat.le_of_ble_eq_true rfl) dX1_of_13
def C_ofS4_VC (x1 : Int32) (x2 : Int32) (S : CS) (post : Int32 → CS → Prop) : Prop := C_ofS4_w0 post x1 x2 S
theorem C_ofS4_ok {x1 : Int32} {x2 : Int32} {S : CS} {post : Int32 → CS → Prop} (h : C_ofS4_VC x1 x2 S post) : C_ofS4 x1 x2 S post := by
  intro l D dA o sz
  refine cr_start (fun A => va_Qi post (cB D dA o A) A) rfl (Nat.le_of_ble_eq_true rfl) (by decide) ?_
  intro p e s m args below meth c ls A C w hl
  have hl : lv_has ls 3 [(0, .ref (o 4)), (1, .int x1), (2, .int x2)] := hl
  exact C_ofS4_a0 C h (lv_sub hl [0, 1, 2] rfl) w

/-! ThirdSheets.isBent(I)Z -/
def C_isBent_w53 (post : Int32 → CS → Prop) (v0 : Int32) (S : CS) : Prop :=
  (zok v0 ∧ post v0 S)
set_option maxHeartbeats 4000000 in
set_option maxRecDepth 100000 in
theorem C_isBent_a53 {p : Program} {l : Launch} {e : Env} {s : State} {m : MethodId} {args : Array Value} {below : List Frame} {meth : Method} {c : Code} {D : va_G} {dA : Nat → ClassId} {o : Nat → Nat} {A : Nat → Prop} {post : Int32 → CS → Prop} (C : cC RX0 p m c cX0_isBent 3 s args meth (Option.some Jvm.ClassFile.FieldType.boolean) A) {v0 : Int32} {S : CS} (h : C_isBent_w53 post v0 S) {H : Heap} {locs : List Loc} {ls : Array Slot} (hl : lv_has ls 3 [(0, .ref (o 0))]) (w : cw D dA o A s S H locs) : W p l e (rC_isBent) s m args below meth c H locs 0 0 (cQi below args s D dA o A (rC_isBent) post) (F0 m 53 ls [.int v0]) := by
  unfold C_isBent_w53 at h
  obtain ⟨⟨hx, hb, hml, hown, hts⟩, hr, hlk, hA⟩ := id C
  exact cr_zret C w (zok_n h.1) h.2 (Nat.le_of_ble_eq_true rfl) (Nat.le_of_ble_eq_true rfl) dX0_isBent_53
def C_isBent_w0 (post : Int32 → CS → Prop) (x1 : Int32) (S : CS) : Prop :=
  C_firstS3 x1 S (fun (r1 : Int32) (S1 : CS) => C_ofS4 (r1 / (6 : Int32)) ((2 : Int32) * (r1 - r1 / (6 : Int32) * (6 : Int32))) S1 (fun (r2 : Int32) (S2 : CS) => C_ofS4 (r1 / (6 : Int32)) (((2 : Int32) * (r1 - r1 / (6 : Int32) * (6 : Int32))) + (1 : Int32)) S2 (fun (r3 : Int32) (S3 : CS) => ((¬ r2 = r3 → C_isBent_w53 post (0 : Int32) S3) ∧ (r2 = r3 → C_isBent_w53 post (1 : Int32) S3)))))
set_option maxHeartbeats 4000000 in
set_option maxRecDepth 100000 in
theorem C_isBent_a0 {p : Program} {l : Launch} {e : Env} {s : State} {m : MethodId} {args : Array Value} {below : List Frame} {meth : Method} {c : Code} {D : va_G} {dA : Nat → ClassId} {o : Nat → Nat} {A : Nat → Prop} {post : Int32 → CS → Prop} (C : cC RX0 p m c cX0_isBent 3 s args meth (Option.some Jvm.ClassFile.FieldType.boolean) A) {x1 : Int32} {S : CS} (h : C_isBent_w0 post x1 S) {H : Heap} {locs : List Loc} {ls : Array Slot} (hl : lv_has ls 3 [(0, .ref (o 0)), (1, .int x1)]) (w : cw D dA o A s S H locs) : W p l e (rC_isBent) s m args below meth c H locs 0 0 (cQi below args s D dA o A (rC_isBent) post) (F0 m 0 ls []) := by
  unfold C_isBent_w0 at h
  obtain ⟨⟨hx, hb, hml, hown, hts⟩, hr, hlk, hA⟩ := id C
  refine lv_aload_n hx hb dX0_isBent_0 rfl (lv_at hl 0 rfl) ?_
  refine cr_get C w 0 rfl rfl in_X0 3 (by decide) q167 rfl rfl dX0_isBent_1 ?_
  refine lv_iload_n hx hb dX0_isBent_4 rfl (lv_at hl 1 rfl) ?_
  refine cr_callUI (owner := RX1) (rest := []) (b := fun o => o 3) C w h (recv3 w) (va_cwU 1 hts (lw_U q349 q350 q352 q353 q83 q354) rfl rfl rfl rfl (by decide +kernel) ⟨Nat.le_of_ble_eq_true rfl, Nat.le_of_ble_eq_true rfl⟩) rfl hl.1 rfl (Nat.le_of_ble_eq_true rfl) ⟨Nat.le_of_ble_eq_true rfl, Nat.le_of_ble_eq_true rfl⟩ dX0_isBent_5 (fun r1 S1 H locs h w => ?_)
  refine lv_istore_n (lv' := [(2, .int _), (0, .ref _), (1, .int _)]) hx hb dX0_isBent_8 rfl hl (by decide) rfl (fun ls hl => ?_)
  refine lv_aload_n hx hb dX0_isBent_9 rfl (lv_at hl 1 rfl) ?_
  refine cr_get C w 0 rfl rfl in_X0 4 (by decide) q168 rfl rfl dX0_isBent_10 ?_
  refine lv_iload_n hx hb dX0_isBent_13 rfl (lv_at hl 0 rfl) ?_
  refine lv_bipush (v := 6) hx hb dX0_isBent_14 (by decide) ?_
  refine lv_idiv hx hb dX0_isBent_16 (by decide) ?_
  refine lv_iconst (v := 2) hx hb dX0_isBent_17 (by decide) ?_
  refine lv_iload_n hx hb dX0_isBent_18 rfl (lv_at hl 0 rfl) ?_
  refine lv_bipush (v := 6) hx hb dX0_isBent_19 (by decide) ?_
  refine lv_irem hx hb dX0_isBent_21 (by decide) ?_
  refine lv_imul hx hb dX0_isBent_22 ?_
  refine cr_callUI (owner := RX1) (rest := []) (b := fun o => o 4) C w h (recv4 w) (va_cwU 2 hts (lw_U q355 q356 q357 q333 q83 q334) rfl rfl rfl rfl (by decide +kernel) ⟨Nat.le_of_ble_eq_true rfl, Nat.le_of_ble_eq_true rfl⟩) rfl hl.1 rfl (Nat.le_of_ble_eq_true rfl) ⟨Nat.le_of_ble_eq_true rfl, Nat.le_of_ble_eq_true rfl⟩ dX0_isBent_23 (fun r2 S2 H locs h w => ?_)
  refine lv_aload_n hx hb dX0_isBent_26 rfl (lv_at hl 1 rfl) ?_
  refine cr_get C w 0 rfl rfl in_X0 4 (by decide) q168 rfl rfl dX0_isBent_27 ?_
  refine lv_iload_n hx hb dX0_isBent_30 rfl (lv_at hl 0 rfl) ?_
  refine lv_bipush (v := 6) hx hb dX0_isBent_31 (by decide) ?_
  refine lv_idiv hx hb dX0_isBent_33 (by decide) ?_
  refine lv_iconst (v := 2) hx hb dX0_isBent_34 (by decide) ?_
  refine lv_iload_n hx hb dX0_isBent_35 rfl (lv_at hl 0 rfl) ?_
  refine lv_bipush (v := 6) hx hb dX0_isBent_36 (by decide) ?_
  refine lv_irem hx hb dX0_isBent_38 (by decide) ?_
  refine lv_imul hx hb dX0_isBent_39 ?_
  refine lv_iconst (v := 1) hx hb dX0_isBent_40 (by decide) ?_
  refine lv_iadd hx hb dX0_isBent_41 ?_
  refine cr_callUI (owner := RX1) (rest := [.int _]) (b := fun o => o 4) C w h (recv4 w) (va_cwU 2 hts (lw_U q355 q356 q357 q333 q83 q334) rfl rfl rfl rfl (by decide +kernel) ⟨Nat.le_of_ble_eq_true rfl, Nat.le_of_ble_eq_true rfl⟩) rfl hl.1 rfl (Nat.le_of_ble_eq_true rfl) ⟨Nat.le_of_ble_eq_true rfl, Nat.le_of_ble_eq_true rfl⟩ dX0_isBent_42 (fun r3 S3 H locs h w => ?_)
  obtain ⟨h1, h2⟩ := h
  refine lv_icmp_ne (tgt := 52) hx hb dX0_isBent_45 (by decide) (fun c1 => ?_) (fun c1 => ?_)
  · have h := h1 c1
    refine lv_iconst (v := 0) hx hb dX0_isBent_52 (by decide) ?_
    exact C_isBent_a53 C h (lv_sub hl [1] rfl) w
  · have h := h2 c1
    refine lv_iconst (v := 1) hx hb dX0_isBent_48 (by decide) ?_
    refine lv_goto (tgt := 53) hx hb dX0_isBent_49 (by decide) ?_
    exact C_isBent_a53 C h (lv_sub hl [1] rfl) w
def C_isBent_VC (x1 : Int32) (S : CS) (post : Int32 → CS → Prop) : Prop := C_isBent_w0 post x1 S
theorem C_isBent_ok {x1 : Int32} {S : CS} {post : Int32 → CS → Prop} (h : C_isBent_VC x1 S post) : C_isBent x1 S post := by
  intro l D dA o sz
  refine cr_start (fun A => va_Qi post (cB D dA o A) A) rfl (Nat.le_of_ble_eq_true rfl) (by decide) ?_
  intro p e s m args below meth c ls A C w hl
  have hl : lv_has ls 3 [(0, .ref (o 0)), (1, .int x1)] := hl
  exact C_isBent_a0 C h (lv_sub hl [0, 1] rfl) w

/-! ThirdSheets$Ends.across(IILThirdSheets$Glue;)I -/
def C_acrossS4_w108 (post : Int32 → CS → Prop) (v0 : Int32) (S : CS) : Prop :=
  post v0 S
set_option maxHeartbeats 4000000 in
set_option maxRecDepth 100000 in
theorem C_acrossS4_a108 {p : Program} {l : Launch} {e : Env} {s : State} {m : MethodId} {args : Array Value} {below : List Frame} {meth : Method} {c : Code} {D : va_G} {dA : Nat → ClassId} {o : Nat → Nat} {A : Nat → Prop} {post : Int32 → CS → Prop} (C : cC RX4 p m c cX4_across 6 s args meth (Option.some Jvm.ClassFile.FieldType.int) A) {v0 : Int32} {S : CS} (h : C_acrossS4_w108 post v0 S) {H : Heap} {locs : List Loc} {ls : Array Slot} (hl : lv_has ls 6 [(0, .ref (o 4))]) (w : cw D dA o A s S H locs) : W p l e (rC_acrossS4) s m args below meth c H locs 0 0 (cQi below args s D dA o A (rC_acrossS4) post) (F0 m 108 ls [.int v0]) := by
  unfold C_acrossS4_w108 at h
  obtain ⟨⟨hx, hb, hml, hown, hts⟩, hr, hlk, hA⟩ := id C
  exact cr_iret C w h (Nat.le_of_ble_eq_true rfl) (Nat.le_of_ble_eq_true rfl) dX4_across_108
def C_acrossS4_w107 (post : Int32 → CS → Prop) (v0 : Int32) (v1 : Int32) (S : CS) : Prop :=
  C_acrossS4_w108 post (v1 + v0) S
set_option maxHeartbeats 4000000 in
set_option maxRecDepth 100000 in
theorem C_acrossS4_a107 {p : Program} {l : Launch} {e : Env} {s : State} {m : MethodId} {args : Array Value} {below : List Frame} {meth : Method} {c : Code} {D : va_G} {dA : Nat → ClassId} {o : Nat → Nat} {A : Nat → Prop} {post : Int32 → CS → Prop} (C : cC RX4 p m c cX4_across 6 s args meth (Option.some Jvm.ClassFile.FieldType.int) A) {v0 : Int32} {v1 : Int32} {S : CS} (h : C_acrossS4_w107 post v0 v1 S) {H : Heap} {locs : List Loc} {ls : Array Slot} (hl : lv_has ls 6 [(0, .ref (o 4))]) (w : cw D dA o A s S H locs) : W p l e (rC_acrossS4) s m args below meth c H locs 0 0 (cQi below args s D dA o A (rC_acrossS4) post) (F0 m 107 ls [.int v0, .int v1]) := by
  unfold C_acrossS4_w107 at h
  obtain ⟨⟨hx, hb, hml, hown, hts⟩, hr, hlk, hA⟩ := id C
  refine lv_iadd hx hb dX4_across_107 ?_
  exact C_acrossS4_a108 C h (lv_sub hl [0] rfl) w
def C_acrossS4_w62 (post : Int32 → CS → Prop) (S : CS) : Prop :=
  C_acrossS4_w108 post (-1 : Int32) S
set_option maxHeartbeats 4000000 in
set_option maxRecDepth 100000 in
theorem C_acrossS4_a62 {p : Program} {l : Launch} {e : Env} {s : State} {m : MethodId} {args : Array Value} {below : List Frame} {meth : Method} {c : Code} {D : va_G} {dA : Nat → ClassId} {o : Nat → Nat} {A : Nat → Prop} {post : Int32 → CS → Prop} (C : cC RX4 p m c cX4_across 6 s args meth (Option.some Jvm.ClassFile.FieldType.int) A) {S : CS} (h : C_acrossS4_w62 post S) {H : Heap} {locs : List Loc} {ls : Array Slot} (hl : lv_has ls 6 [(0, .ref (o 4))]) (w : cw D dA o A s S H locs) : W p l e (rC_acrossS4) s m args below meth c H locs 0 0 (cQi below args s D dA o A (rC_acrossS4) post) (F0 m 62 ls []) := by
  unfold C_acrossS4_w62 at h
  obtain ⟨⟨hx, hb, hml, hown, hts⟩, hr, hlk, hA⟩ := id C
  refine lv_iconst (v := -1) hx hb dX4_across_62 (by decide) ?_
  refine lv_goto (tgt := 108) hx hb dX4_across_63 (by decide) ?_
  exact C_acrossS4_a108 C h (lv_sub hl [0] rfl) w
def C_acrossS4_w48 (post : Int32 → CS → Prop) (v0 : Int32) (x2 : Int32) (a3 : Nat) (x4 : Int32) (S : CS) : Prop :=
  ((x4 = x2 → C_acrossS4_w62 post S) ∧ (¬ x4 = x2 → ((¬ v0 = x2 → (pk S a3 0 ∧ (pk S (kG S a3).2.2 1 ∧ vp_in x4 (kN S (kG S a3).2.2) ∧ (pk S a3 0 ∧ (pk S (kG S a3).2.2 1 ∧ vp_in v0 (kN S (kG S a3).2.2) ∧ C_edgeOf (kT S (kG S a3).2.2 (x4).toNatClampNeg) (kT S (kG S a3).2.2 (v0).toNatClampNeg) S (fun (r1 : Int32) (S1 : CS) => (pk S1 a3 0 ∧ (pk S1 (kG S1 a3).2.2 1 ∧ vp_in x4 (kN S1 (kG S1 a3).2.2) ∧ (pk S1 a3 0 ∧ (pk S1 (kG S1 a3).2.2 1 ∧ vp_in v0 (kN S1 (kG S1 a3).2.2) ∧ (((kT S1 (kG S1 a3).2.2 (x4).toNatClampNeg) ≤ (kT S1 (kG S1 a3).2.2 (v0).toNatClampNeg) → C_acrossS4_w107 post (0 : Int32) ((2 : Int32) * r1) S1) ∧ (¬ (kT S1 (kG S1 a3).2.2 (x4).toNatClampNeg) ≤ (kT S1 (kG S1 a3).2.2 (v0).toNatClampNeg) → C_acrossS4_w107 post (1 : Int32) ((2 : Int32) * r1) S1)))))))))))) ∧ (v0 = x2 → C_acrossS4_w62 post S))))
set_option maxHeartbeats 4000000 in
set_option maxRecDepth 100000 in
theorem C_acrossS4_a48 {p : Program} {l : Launch} {e : Env} {s : State} {m : MethodId} {args : Array Value} {below : List Frame} {meth : Method} {c : Code} {D : va_G} {dA : Nat → ClassId} {o : Nat → Nat} {A : Nat → Prop} {post : Int32 → CS → Prop} (C : cC RX4 p m c cX4_across 6 s args meth (Option.some Jvm.ClassFile.FieldType.int) A) {v0 : Int32} {x2 : Int32} {a3 : Nat} {x4 : Int32} {S : CS} (h : C_acrossS4_w48 post v0 x2 a3 x4 S) {H : Heap} {locs : List Loc} {ls : Array Slot} (hl : lv_has ls 6 [(0, .ref (o 4)), (2, .int x2), (3, .ref a3), (4, .int x4)]) (w : cw D dA o A s S H locs) : W p l e (rC_acrossS4) s m args below meth c H locs 0 0 (cQi below args s D dA o A (rC_acrossS4) post) (F0 m 48 ls [.int v0]) := by
  unfold C_acrossS4_w48 at h
  obtain ⟨⟨hx, hb, hml, hown, hts⟩, hr, hlk, hA⟩ := id C
  refine lv_istore (lv' := [(5, .int _), (0, .ref _), (2, .int _), (3, .ref _), (4, .int _)]) hx hb dX4_across_48 hl (by decide) rfl (fun ls hl => ?_)
  refine lv_iload hx hb dX4_across_50 (lv_at hl 4 rfl) ?_
  refine lv_iload_n hx hb dX4_across_52 rfl (lv_at hl 2 rfl) ?_
  obtain ⟨h1, h2⟩ := h
  refine lv_icmp_eq (tgt := 62) hx hb dX4_across_53 (by decide) (fun c1 => ?_) (fun c1 => ?_)
  · have h := h1 c1
    exact C_acrossS4_a62 C h (lv_sub hl [1] rfl) w
  · have h := h2 c1
    refine lv_iload hx hb dX4_across_56 (lv_at hl 0 rfl) ?_
    refine lv_iload_n hx hb dX4_across_58 rfl (lv_at hl 2 rfl) ?_
    obtain ⟨h1, h2⟩ := h
    refine lv_icmp_ne (tgt := 66) hx hb dX4_across_59 (by decide) (fun c1 => ?_) (fun c1 => ?_)
    · have h := h1 c1
      refine lv_iconst (v := 2) hx hb dX4_across_66 (by decide) ?_
      refine lv_aload_n hx hb dX4_across_67 rfl (lv_at hl 3 rfl) ?_
      obtain ⟨hpk, h⟩ := h
      refine cr_getGt C w hpk nwF_RX4_22 dX4_across_68 ?_
      refine lv_iload hx hb dX4_across_71 (lv_at hl 4 rfl) ?_
      obtain ⟨hpk, hi, h⟩ := h
      refine cr_tald C w hpk hi dX4_across_73 ?_
      refine lv_aload_n hx hb dX4_across_74 rfl (lv_at hl 3 rfl) ?_
      obtain ⟨hpk, h⟩ := h
      refine cr_getGt C w hpk nwF_RX4_22 dX4_across_75 ?_
      refine lv_iload hx hb dX4_across_78 (lv_at hl 0 rfl) ?_
      obtain ⟨hpk, hi, h⟩ := h
      refine cr_tald C w hpk hi dX4_across_80 ?_
      refine cr_callSN (host := RX0) (rest := [.int _]) C w h (va_cnB 2 hts (lw_meth q314) rfl rfl rfl (w.2.2.2.2.1.1 _ nwM_RX4_27) (hts _ q82) C_edgeOf_d ⟨Nat.le_of_ble_eq_true rfl, Nat.le_of_ble_eq_true rfl⟩) q313 rfl hl.1 rfl (Nat.le_of_ble_eq_true rfl) ⟨Nat.le_of_ble_eq_true rfl, Nat.le_of_ble_eq_true rfl⟩ dX4_across_81 (fun r1 S1 H locs h w => ?_)
      refine lv_imul hx hb dX4_across_84 ?_
      refine lv_aload_n hx hb dX4_across_85 rfl (lv_at hl 3 rfl) ?_
      obtain ⟨hpk, h⟩ := h
      refine cr_getGt C w hpk nwF_RX4_22 dX4_across_86 ?_
      refine lv_iload hx hb dX4_across_89 (lv_at hl 4 rfl) ?_
      obtain ⟨hpk, hi, h⟩ := h
      refine cr_tald C w hpk hi dX4_across_91 ?_
      refine lv_aload_n hx hb dX4_across_92 rfl (lv_at hl 3 rfl) ?_
      obtain ⟨hpk, h⟩ := h
      refine cr_getGt C w hpk nwF_RX4_22 dX4_across_93 ?_
      refine lv_iload hx hb dX4_across_96 (lv_at hl 0 rfl) ?_
      obtain ⟨hpk, hi, h⟩ := h
      refine cr_tald C w hpk hi dX4_across_98 ?_
      obtain ⟨h1, h2⟩ := h
      refine lv_icmp_le (tgt := 106) hx hb dX4_across_99 (by decide) (fun c1 => ?_) (fun c1 => ?_)
      · have h := h1 c1
        refine lv_iconst (v := 0) hx hb dX4_across_106 (by decide) ?_
        exact C_acrossS4_a107 C h (lv_sub hl [1] rfl) w
      · have h := h2 c1
        refine lv_iconst (v := 1) hx hb dX4_across_102 (by decide) ?_
        refine lv_goto (tgt := 107) hx hb dX4_across_103 (by decide) ?_
        exact C_acrossS4_a107 C h (lv_sub hl [1] rfl) w
    · have h := h2 c1
      exact C_acrossS4_a62 C h (lv_sub hl [1] rfl) w
def C_acrossS4_w23 (post : Int32 → CS → Prop) (v0 : Int32) (x1 : Int32) (x2 : Int32) (a3 : Nat) (S : CS) : Prop :=
  ((¬ (x1 - x1 / (2 : Int32) * (2 : Int32)) = 0 → (vp_in (x1 / (2 : Int32)) 6 ∧ C_acrossS4_w48 post (lowF ((x1 / (2 : Int32))).toNatClampNeg) x2 a3 v0 S)) ∧ ((x1 - x1 / (2 : Int32) * (2 : Int32)) = 0 → (vp_in (x1 / (2 : Int32)) 6 ∧ C_acrossS4_w48 post (highF ((x1 / (2 : Int32))).toNatClampNeg) x2 a3 v0 S)))
set_option maxHeartbeats 4000000 in
set_option maxRecDepth 100000 in
theorem C_acrossS4_a23 {p : Program} {l : Launch} {e : Env} {s : State} {m : MethodId} {args : Array Value} {below : List Frame} {meth : Method} {c : Code} {D : va_G} {dA : Nat → ClassId} {o : Nat → Nat} {A : Nat → Prop} {post : Int32 → CS → Prop} (C : cC RX4 p m c cX4_across 6 s args meth (Option.some Jvm.ClassFile.FieldType.int) A) {v0 : Int32} {x1 : Int32} {x2 : Int32} {a3 : Nat} {S : CS} (h : C_acrossS4_w23 post v0 x1 x2 a3 S) {H : Heap} {locs : List Loc} {ls : Array Slot} (hl : lv_has ls 6 [(0, .ref (o 4)), (1, .int x1), (2, .int x2), (3, .ref a3)]) (w : cw D dA o A s S H locs) : W p l e (rC_acrossS4) s m args below meth c H locs 0 0 (cQi below args s D dA o A (rC_acrossS4) post) (F0 m 23 ls [.int v0]) := by
  unfold C_acrossS4_w23 at h
  obtain ⟨⟨hx, hb, hml, hown, hts⟩, hr, hlk, hA⟩ := id C
  obtain ⟨tL, tH, hZL, hTL, hZH, hTH⟩ := w.2.2.2.2.2
  refine lv_istore (lv' := [(4, .int _), (0, .ref _), (1, .int _), (2, .int _), (3, .ref _)]) hx hb dX4_across_23 hl (by decide) rfl (fun ls hl => ?_)
  refine lv_iload_n hx hb dX4_across_25 rfl (lv_at hl 2 rfl) ?_
  refine lv_iconst (v := 2) hx hb dX4_across_26 (by decide) ?_
  refine lv_irem hx hb dX4_across_27 (by decide) ?_
  obtain ⟨h1, h2⟩ := h
  refine lv_if_ne (tgt := 41) hx hb dX4_across_28 (by decide) (fun c1 => ?_) (fun c1 => ?_)
  · have h := h1 c1
    refine cr_getsN C w hZL nwF_RX4_15 dX4_across_41 ?_ -- tL
    refine lv_iload_n hx hb dX4_across_44 rfl (lv_at hl 2 rfl) ?_
    refine lv_iconst (v := 2) hx hb dX4_across_45 (by decide) ?_
    refine lv_idiv hx hb dX4_across_46 (by decide) ?_
    obtain ⟨hi, h⟩ := h
    refine cr_sald C w hTL hi dX4_across_47 ?_
    exact C_acrossS4_a48 C h (lv_sub hl [1, 3, 4, 0] rfl) w
  · have h := h2 c1
    refine cr_getsN C w hZH nwF_RX4_19 dX4_across_31 ?_ -- tH
    refine lv_iload_n hx hb dX4_across_34 rfl (lv_at hl 2 rfl) ?_
    refine lv_iconst (v := 2) hx hb dX4_across_35 (by decide) ?_
    refine lv_idiv hx hb dX4_across_36 (by decide) ?_
    obtain ⟨hi, h⟩ := h
    refine cr_sald C w hTH hi dX4_across_37 ?_
    refine lv_goto (tgt := 48) hx hb dX4_across_38 (by decide) ?_
    exact C_acrossS4_a48 C h (lv_sub hl [1, 3, 4, 0] rfl) w
def C_acrossS4_w0 (post : Int32 → CS → Prop) (x1 : Int32) (x2 : Int32) (a3 : Nat) (S : CS) : Prop :=
  ((¬ (x1 - x1 / (2 : Int32) * (2 : Int32)) = 0 → (vp_in (x1 / (2 : Int32)) 6 ∧ C_acrossS4_w23 post (highF ((x1 / (2 : Int32))).toNatClampNeg) x1 x2 a3 S)) ∧ ((x1 - x1 / (2 : Int32) * (2 : Int32)) = 0 → (vp_in (x1 / (2 : Int32)) 6 ∧ C_acrossS4_w23 post (lowF ((x1 / (2 : Int32))).toNatClampNeg) x1 x2 a3 S)))
set_option maxHeartbeats 4000000 in
set_option maxRecDepth 100000 in
theorem C_acrossS4_a0 {p : Program} {l : Launch} {e : Env} {s : State} {m : MethodId} {args : Array Value} {below : List Frame} {meth : Method} {c : Code} {D : va_G} {dA : Nat → ClassId} {o : Nat → Nat} {A : Nat → Prop} {post : Int32 → CS → Prop} (C : cC RX4 p m c cX4_across 6 s args meth (Option.some Jvm.ClassFile.FieldType.int) A) {x1 : Int32} {x2 : Int32} {a3 : Nat} {S : CS} (h : C_acrossS4_w0 post x1 x2 a3 S) {H : Heap} {locs : List Loc} {ls : Array Slot} (hl : lv_has ls 6 [(0, .ref (o 4)), (1, .int x1), (2, .int x2), (3, .ref a3)]) (w : cw D dA o A s S H locs) : W p l e (rC_acrossS4) s m args below meth c H locs 0 0 (cQi below args s D dA o A (rC_acrossS4) post) (F0 m 0 ls []) := by
  unfold C_acrossS4_w0 at h
  obtain ⟨⟨hx, hb, hml, hown, hts⟩, hr, hlk, hA⟩ := id C
  obtain ⟨tL, tH, hZL, hTL, hZH, hTH⟩ := w.2.2.2.2.2
  refine lv_iload_n hx hb dX4_across_0 rfl (lv_at hl 1 rfl) ?_
  refine lv_iconst (v := 2) hx hb dX4_across_1 (by decide) ?_
  refine lv_irem hx hb dX4_across_2 (by decide) ?_
  obtain ⟨h1, h2⟩ := h
  refine lv_if_ne (tgt := 16) hx hb dX4_across_3 (by decide) (fun c1 => ?_) (fun c1 => ?_)
  · have h := h1 c1
    refine cr_getsN C w hZH nwF_RX4_19 dX4_across_16 ?_ -- tH
    refine lv_iload_n hx hb dX4_across_19 rfl (lv_at hl 1 rfl) ?_
    refine lv_iconst (v := 2) hx hb dX4_across_20 (by decide) ?_
    refine lv_idiv hx hb dX4_across_21 (by decide) ?_
    obtain ⟨hi, h⟩ := h
    refine cr_sald C w hTH hi dX4_across_22 ?_
    exact C_acrossS4_a23 C h (lv_sub hl [0, 1, 2, 3] rfl) w
  · have h := h2 c1
    refine cr_getsN C w hZL nwF_RX4_15 dX4_across_6 ?_ -- tL
    refine lv_iload_n hx hb dX4_across_9 rfl (lv_at hl 1 rfl) ?_
    refine lv_iconst (v := 2) hx hb dX4_across_10 (by decide) ?_
    refine lv_idiv hx hb dX4_across_11 (by decide) ?_
    obtain ⟨hi, h⟩ := h
    refine cr_sald C w hTL hi dX4_across_12 ?_
    refine lv_goto (tgt := 23) hx hb dX4_across_13 (by decide) ?_
    exact C_acrossS4_a23 C h (lv_sub hl [0, 1, 2, 3] rfl) w
def C_acrossS4_VC (x1 : Int32) (x2 : Int32) (a3 : Nat) (S : CS) (post : Int32 → CS → Prop) : Prop := C_acrossS4_w0 post x1 x2 a3 S
theorem C_acrossS4_ok {x1 : Int32} {x2 : Int32} {a3 : Nat} {S : CS} {post : Int32 → CS → Prop} (h : C_acrossS4_VC x1 x2 a3 S post) : C_acrossS4 x1 x2 a3 S post := by
  intro l D dA o sz
  refine cr_start (fun A => va_Qi post (cB D dA o A) A) rfl (Nat.le_of_ble_eq_true rfl) (by decide) ?_
  intro p e s m args below meth c ls A C w hl
  have hl : lv_has ls 6 [(0, .ref (o 4)), (1, .int x1), (2, .int x2), (3, .ref a3)] := hl
  exact C_acrossS4_a0 C h (lv_sub hl [0, 1, 2, 3] rfl) w

/-! ThirdSheets$Sort.spread(II)V -/
def C_spreadS4_w102 (dd : Nat) (post : CS → Prop) (T9 : Int32 → Int32 → Int32 → CS → Prop) (x1 : Int32) (x2 : Int32) (x3 : Int32) (S : CS) : Prop :=
  T9 x1 x2 (x3 + (1 : Int32)) S
set_option maxHeartbeats 4000000 in
set_option maxRecDepth 100000 in
theorem C_spreadS4_a102 {p : Program} {l : Launch} {e : Env} {s : State} {m : MethodId} {args : Array Value} {below : List Frame} {meth : Method} {c : Code} {D : va_G} {dA : Nat → ClassId} {o : Nat → Nat} {A : Nat → Prop} {dd : Nat} {post : CS → Prop} {T9 : Int32 → Int32 → Int32 → CS → Prop} (C : cC RX1 p m c cX1_spread 6 s args meth (Option.none : Option Jvm.ClassFile.FieldType) A) (hT9 : ∀ (x1 : Int32) (x2 : Int32) (x3 : Int32) (S : CS), T9 x1 x2 x3 S → ∀ (H : Heap) (locs : List Loc) (ls : Array Slot), lv_has ls 6 [(0, .ref (o 4)), (1, .int x1), (2, .int x2), (3, .int x3)] → cw D dA o A s S H locs → W p l e (rC_spreadS4 (dd + 1)) s m args below meth c H locs 0 0 (cQv below args s D dA o A (rC_spreadS4 (dd + 1)) post) (F0 m 9 ls [])) {x1 : Int32} {x2 : Int32} {x3 : Int32} {S : CS} (h : C_spreadS4_w102 dd post T9 x1 x2 x3 S) {H : Heap} {locs : List Loc} {ls : Array Slot} (hl : lv_has ls 6 [(0, .ref (o 4)), (1, .int x1), (2, .int x2), (3, .int x3)]) (w : cw D dA o A s S H locs) : W p l e (rC_spreadS4 (dd + 1)) s m args below meth c H locs 0 0 (cQv below args s D dA o A (rC_spreadS4 (dd + 1)) post) (F0 m 102 ls []) := by
  unfold C_spreadS4_w102 at h
  obtain ⟨⟨hx, hb, hml, hown, hts⟩, hr, hlk, hA⟩ := id C
  refine lv_iinc (v := _ + (1 : Int32)) (lv' := [(3, .int _), (0, .ref _), (1, .int _), (2, .int _)]) hx hb dX1_spread_102 hl (k := 3) rfl rfl (by decide) rfl (fun ls hl => ?_)
  refine lv_goto (tgt := 9) hx hb dX1_spread_105 (by decide) ?_
  exact hT9 _ _ _ _ h _ _ _ (lv_sub hl [1, 2, 3, 0] rfl) w
def C_spreadS4_w54 (dd : Nat) (post : CS → Prop) (T9 : Int32 → Int32 → Int32 → CS → Prop) (v0 : Int32) (x1 : Int32) (x2 : Int32) (x3 : Int32) (y4 : Option Nat) (S : CS) : Prop :=
  ((v0 = (-1 : Int32) → C_spreadS4_w102 dd post T9 x1 x2 x3 S) ∧ (¬ v0 = (-1 : Int32) → (∃ g1 : Nat, y4 = some g1 ∧ pk S g1 0 ∧ (vp_in (((kG S g1).1 * (12 : Int32)) + v0) 36 ∧ ((¬ (kI S 34 ((((kG S g1).1 * (12 : Int32)) + v0)).toNatClampNeg) = (-1 : Int32) → C_spreadS4_w102 dd post T9 x1 x2 x3 S) ∧ ((kI S 34 ((((kG S g1).1 * (12 : Int32)) + v0)).toNatClampNeg) = (-1 : Int32) → (∃ g2 : Nat, y4 = some g2 ∧ pk S g2 0 ∧ C_spreadS4 dd (((kG S g2).1 * (12 : Int32)) + v0) x2 S (fun (S3 : CS) => C_spreadS4_w102 dd post T9 x1 x2 x3 S3))))))))
set_option maxHeartbeats 4000000 in
set_option maxRecDepth 100000 in
theorem C_spreadS4_a54 {p : Program} {l : Launch} {e : Env} {s : State} {m : MethodId} {args : Array Value} {below : List Frame} {meth : Method} {c : Code} {D : va_G} {dA : Nat → ClassId} {o : Nat → Nat} {A : Nat → Prop} {dd : Nat} {post : CS → Prop} {T9 : Int32 → Int32 → Int32 → CS → Prop} (C : cC RX1 p m c cX1_spread 6 s args meth (Option.none : Option Jvm.ClassFile.FieldType) A) (hT9 : ∀ (x1 : Int32) (x2 : Int32) (x3 : Int32) (S : CS), T9 x1 x2 x3 S → ∀ (H : Heap) (locs : List Loc) (ls : Array Slot), lv_has ls 6 [(0, .ref (o 4)), (1, .int x1), (2, .int x2), (3, .int x3)] → cw D dA o A s S H locs → W p l e (rC_spreadS4 (dd + 1)) s m args below meth c H locs 0 0 (cQv below args s D dA o A (rC_spreadS4 (dd + 1)) post) (F0 m 9 ls [])) {v0 : Int32} {x1 : Int32} {x2 : Int32} {x3 : Int32} {y4 : Option Nat} {S : CS} (h : C_spreadS4_w54 dd post T9 v0 x1 x2 x3 y4 S) {H : Heap} {locs : List Loc} {ls : Array Slot} (hl : lv_has ls 6 [(0, .ref (o 4)), (1, .int x1), (2, .int x2), (3, .int x3), (4, va_rf y4)]) (w : cw D dA o A s S H locs) : W p l e (rC_spreadS4 (dd + 1)) s m args below meth c H locs 0 0 (cQv below args s D dA o A (rC_spreadS4 (dd + 1)) post) (F0 m 54 ls [.int v0]) := by
  unfold C_spreadS4_w54 at h
  obtain ⟨⟨hx, hb, hml, hown, hts⟩, hr, hlk, hA⟩ := id C
  refine lv_istore (lv' := [(5, .int _), (0, .ref _), (1, .int _), (2, .int _), (3, .int _), (4, va_rf _)]) hx hb dX1_spread_54 hl (by decide) ((congrArg (List.cons _) (lv_filtC (by intro q hq hq1; simp only [List.mem_cons, List.not_mem_nil, or_false] at hq; rcases hq with rfl | rfl | rfl | rfl | rfl <;> first | exact va_rf_cat _ | (exfalso; simp at hq1)))).trans rfl) (fun ls hl => ?_)
  refine lv_iload hx hb dX1_spread_56 (lv_at hl 0 rfl) ?_
  refine lv_iconst (v := -1) hx hb dX1_spread_58 (by decide) ?_
  obtain ⟨h1, h2⟩ := h
  refine lv_icmp_eq (tgt := 102) hx hb dX1_spread_59 (by decide) (fun c1 => ?_) (fun c1 => ?_)
  · have h := h1 c1
    exact C_spreadS4_a102 C hT9 h (lv_sub hl [1, 2, 3, 4] rfl) w
  · have h := h2 c1
    refine lv_aload_n hx hb dX1_spread_62 rfl (lv_at hl 1 rfl) ?_
    refine cr_get C w 3 rfl rfl in_X4' 1 (by decide) q114 rfl rfl dX1_spread_63 ?_
    refine lv_aloadQ hx hb dX1_spread_66 (lv_at hl 5 rfl) ?_
    obtain ⟨g1, hg, hpk, h⟩ := h
    refine cr_opt hg ?_
    refine cr_getGp C w hpk nwF_RX1_41 dX1_spread_68 ?_
    refine lv_aload_n hx hb dX1_spread_71 rfl (lv_at hl 1 rfl) ?_
    refine cr_get C w 3 rfl rfl in_X4' 0 (by decide) q113 rfl rfl dX1_spread_72 ?_
    refine lv_imul hx hb dX1_spread_75 ?_
    refine lv_iload hx hb dX1_spread_76 (lv_at hl 0 rfl) ?_
    refine lv_iadd hx hb dX1_spread_78 ?_
    obtain ⟨hi, h⟩ := h
    refine cr_iald C w 16 rfl hi dX1_spread_79 ?_
    refine lv_iconst (v := -1) hx hb dX1_spread_80 (by decide) ?_
    obtain ⟨h1, h2⟩ := h
    refine lv_icmp_ne (tgt := 102) hx hb dX1_spread_81 (by decide) (fun c1 => ?_) (fun c1 => ?_)
    · have h := h1 c1
      exact C_spreadS4_a102 C hT9 h (lv_sub hl [1, 2, 3, 4] rfl) w
    · have h := h2 c1
      refine lv_aload_n hx hb dX1_spread_84 rfl (lv_at hl 1 rfl) ?_
      refine lv_aloadQ hx hb dX1_spread_85 (lv_at hl 5 rfl) ?_
      obtain ⟨g2, hg, hpk, h⟩ := h
      refine cr_opt hg ?_
      refine cr_getGp C w hpk nwF_RX1_41 dX1_spread_87 ?_
      refine lv_aload_n hx hb dX1_spread_90 rfl (lv_at hl 1 rfl) ?_
      refine cr_get C w 3 rfl rfl in_X4' 0 (by decide) q113 rfl rfl dX1_spread_91 ?_
      refine lv_imul hx hb dX1_spread_94 ?_
      refine lv_iload hx hb dX1_spread_95 (lv_at hl 0 rfl) ?_
      refine lv_iadd hx hb dX1_spread_97 ?_
      refine lv_iload_n hx hb dX1_spread_98 rfl (lv_at hl 3 rfl) ?_
      refine cr_callUV (owner := RX1) (rest := []) (b := fun o => o 4) C w h (recv4 w) (cr_cuSpread C w nwS_4 2 q295 q935 q297 q83 q298 rfl rfl (by decide +kernel) ⟨by show 3 + dd + 1 ≤ 3 + (dd + 1); omega, by show 8 + (6 + 11) + (69 + 25 * dd) ≤ 69 + 25 * (dd + 1); omega⟩) rfl hl.1 rfl (Nat.le_of_ble_eq_true rfl) ⟨Nat.le_of_ble_eq_true rfl, Nat.le_of_ble_eq_true rfl⟩ dX1_spread_99 (fun S3 H locs h w => ?_)
      exact C_spreadS4_a102 C hT9 h (lv_sub hl [1, 2, 3, 4] rfl) w
def C_spreadS4_w9 (dd : Nat) (post : CS → Prop) (T9 : Int32 → Int32 → Int32 → CS → Prop) (x1 : Int32) (x2 : Int32) (x3 : Int32) (S : CS) : Prop :=
  (((4 : Int32) ≤ x3 → post S) ∧ (¬ (4 : Int32) ≤ x3 → (vp_in (x1 / (12 : Int32)) 3 ∧ (vp_in x3 4 ∧ ((∀ g2 : Nat, (kGl S (((x1 / (12 : Int32))).toNatClampNeg) (x3).toNatClampNeg) = some g2 → C_acrossS4 (x1 - x1 / (12 : Int32) * (12 : Int32)) x3 g2 S (fun (r3 : Int32) (S3 : CS) => C_spreadS4_w54 dd post T9 r3 x1 x2 x3 (some g2) S3)) ∧ ((kGl S (((x1 / (12 : Int32))).toNatClampNeg) (x3).toNatClampNeg) = none → C_spreadS4_w54 dd post T9 (-1 : Int32) x1 x2 x3 (kGl S (((x1 / (12 : Int32))).toNatClampNeg) (x3).toNatClampNeg) S))))))
set_option maxHeartbeats 4000000 in
set_option maxRecDepth 100000 in
theorem C_spreadS4_a9 {p : Program} {l : Launch} {e : Env} {s : State} {m : MethodId} {args : Array Value} {below : List Frame} {meth : Method} {c : Code} {D : va_G} {dA : Nat → ClassId} {o : Nat → Nat} {A : Nat → Prop} {dd : Nat} {post : CS → Prop} {T9 : Int32 → Int32 → Int32 → CS → Prop} (C : cC RX1 p m c cX1_spread 6 s args meth (Option.none : Option Jvm.ClassFile.FieldType) A) (hT9 : ∀ (x1 : Int32) (x2 : Int32) (x3 : Int32) (S : CS), T9 x1 x2 x3 S → ∀ (H : Heap) (locs : List Loc) (ls : Array Slot), lv_has ls 6 [(0, .ref (o 4)), (1, .int x1), (2, .int x2), (3, .int x3)] → cw D dA o A s S H locs → W p l e (rC_spreadS4 (dd + 1)) s m args below meth c H locs 0 0 (cQv below args s D dA o A (rC_spreadS4 (dd + 1)) post) (F0 m 9 ls [])) {x1 : Int32} {x2 : Int32} {x3 : Int32} {S : CS} (h : C_spreadS4_w9 dd post T9 x1 x2 x3 S) {H : Heap} {locs : List Loc} {ls : Array Slot} (hl : lv_has ls 6 [(0, .ref (o 4)), (1, .int x1), (2, .int x2), (3, .int x3)]) (w : cw D dA o A s S H locs) : W p l e (rC_spreadS4 (dd + 1)) s m args below meth c H locs 0 0 (cQv below args s D dA o A (rC_spreadS4 (dd + 1)) post) (F0 m 9 ls []) := by
  unfold C_spreadS4_w9 at h
  obtain ⟨⟨hx, hb, hml, hown, hts⟩, hr, hlk, hA⟩ := id C
  refine lv_iload_n hx hb dX1_spread_9 rfl (lv_at hl 3 rfl) ?_
  refine lv_iconst (v := 4) hx hb dX1_spread_10 (by decide) ?_
  obtain ⟨h1, h2⟩ := h
  refine lv_icmp_ge (tgt := 108) hx hb dX1_spread_11 (by decide) (fun c1 => ?_) (fun c1 => ?_)
  · have h := h1 c1
    exact cr_vret C w h (Nat.le_of_ble_eq_true rfl) (Nat.le_of_ble_eq_true rfl) dX1_spread_108
  · have h := h2 c1
    refine lv_aload_n hx hb dX1_spread_14 rfl (lv_at hl 0 rfl) ?_
    refine cr_get C w 3 rfl rfl in_X4' 3 (by decide) q118 rfl rfl dX1_spread_15 ?_
    refine cr_getN C w 0 rfl rfl in_X0 0 (by decide) nwF_RX1_33 rfl rfl dX1_spread_18 ?_
    refine lv_iload_n hx hb dX1_spread_21 rfl (lv_at hl 1 rfl) ?_
    refine lv_aload_n hx hb dX1_spread_22 rfl (lv_at hl 0 rfl) ?_
    refine cr_get C w 3 rfl rfl in_X4' 0 (by decide) q113 rfl rfl dX1_spread_23 ?_
    refine lv_idiv hx hb dX1_spread_26 (by decide) ?_
    obtain ⟨hi, h⟩ := h
    have hj1 := vp_lt hi
    refine cr_gout C w hi dX1_spread_27 ?_
    refine lv_iload_n hx hb dX1_spread_28 rfl (lv_at hl 3 rfl) ?_
    obtain ⟨hi, h⟩ := h
    refine cr_gin C w hj1 hi dX1_spread_29 ?_
    refine lv_astoreQ (lv' := [(4, va_rf _), (0, .ref _), (1, .int _), (2, .int _), (3, .int _)]) hx hb dX1_spread_30 hl (by decide) rfl (fun ls hl => ?_)
    refine lv_aloadQ hx hb dX1_spread_32 (lv_at hl 0 rfl) ?_
    obtain ⟨h1, h2⟩ := h
    refine lv_ifnonnullQ (tgt := 41) hx hb dX1_spread_34 (by decide) (fun g2 c1 => ?_) (fun c1 => ?_)
    · have h := h1 g2 c1
      rw [c1] at hl
      refine lv_aload_n hx hb dX1_spread_41 rfl (lv_at hl 1 rfl) ?_
      refine lv_iload_n hx hb dX1_spread_42 rfl (lv_at hl 2 rfl) ?_
      refine lv_aload_n hx hb dX1_spread_43 rfl (lv_at hl 1 rfl) ?_
      refine cr_get C w 3 rfl rfl in_X4' 0 (by decide) q113 rfl rfl dX1_spread_44 ?_
      refine lv_irem hx hb dX1_spread_47 (by decide) ?_
      refine lv_iload_n hx hb dX1_spread_48 rfl (lv_at hl 4 rfl) ?_
      refine lv_aload hx hb dX1_spread_49 (lv_at hl 0 rfl) ?_
      refine cr_callUI (owner := RX1) (rest := []) (b := fun o => o 4) C w h (recv4 w) (va_cwA 3 hts (lw_U q299 q301 q320 q321 q86 q322) rfl rfl rfl (w.2.2.2.2.1.1 _ nwD) (by decide +kernel) ⟨by show 2 + 1 ≤ 3 + (dd + 1); omega, by show 8 + (6 + 11) + 44 ≤ 69 + 25 * (dd + 1); omega⟩) rfl hl.1 rfl (Nat.le_of_ble_eq_true rfl) ⟨Nat.le_of_ble_eq_true rfl, Nat.le_of_ble_eq_true rfl⟩ dX1_spread_51 (fun r3 S3 H locs h w => ?_)
      exact C_spreadS4_a54 C hT9 h (lv_sub hl [1, 2, 3, 4, 0] rfl) w
    · have h := h2 c1
      refine lv_iconst (v := -1) hx hb dX1_spread_37 (by decide) ?_
      refine lv_goto (tgt := 54) hx hb dX1_spread_38 (by decide) ?_
      exact C_spreadS4_a54 C hT9 h (lv_sub hl [1, 2, 3, 4, 0] rfl) w
def C_spreadS4_w0 (dd : Nat) (post : CS → Prop) (T9 : Int32 → Int32 → Int32 → CS → Prop) (x1 : Int32) (x2 : Int32) (S : CS) : Prop :=
  (vp_in x1 36 ∧ (fun (S1 : CS) => T9 x1 x2 (0 : Int32) S1) (tI S 34 (x1).toNatClampNeg x2))
set_option maxHeartbeats 4000000 in
set_option maxRecDepth 100000 in
theorem C_spreadS4_a0 {p : Program} {l : Launch} {e : Env} {s : State} {m : MethodId} {args : Array Value} {below : List Frame} {meth : Method} {c : Code} {D : va_G} {dA : Nat → ClassId} {o : Nat → Nat} {A : Nat → Prop} {dd : Nat} {post : CS → Prop} {T9 : Int32 → Int32 → Int32 → CS → Prop} (C : cC RX1 p m c cX1_spread 6 s args meth (Option.none : Option Jvm.ClassFile.FieldType) A) (hT9 : ∀ (x1 : Int32) (x2 : Int32) (x3 : Int32) (S : CS), T9 x1 x2 x3 S → ∀ (H : Heap) (locs : List Loc) (ls : Array Slot), lv_has ls 6 [(0, .ref (o 4)), (1, .int x1), (2, .int x2), (3, .int x3)] → cw D dA o A s S H locs → W p l e (rC_spreadS4 (dd + 1)) s m args below meth c H locs 0 0 (cQv below args s D dA o A (rC_spreadS4 (dd + 1)) post) (F0 m 9 ls [])) {x1 : Int32} {x2 : Int32} {S : CS} (h : C_spreadS4_w0 dd post T9 x1 x2 S) {H : Heap} {locs : List Loc} {ls : Array Slot} (hl : lv_has ls 6 [(0, .ref (o 4)), (1, .int x1), (2, .int x2)]) (w : cw D dA o A s S H locs) : W p l e (rC_spreadS4 (dd + 1)) s m args below meth c H locs 0 0 (cQv below args s D dA o A (rC_spreadS4 (dd + 1)) post) (F0 m 0 ls []) := by
  unfold C_spreadS4_w0 at h
  obtain ⟨⟨hx, hb, hml, hown, hts⟩, hr, hlk, hA⟩ := id C
  refine lv_aload_n hx hb dX1_spread_0 rfl (lv_at hl 0 rfl) ?_
  refine cr_get C w 3 rfl rfl in_X4' 1 (by decide) q114 rfl rfl dX1_spread_1 ?_
  refine lv_iload_n hx hb dX1_spread_4 rfl (lv_at hl 1 rfl) ?_
  refine lv_iload_n hx hb dX1_spread_5 rfl (lv_at hl 2 rfl) ?_
  obtain ⟨hi, h⟩ := h
  refine cr_iast C w 16 rfl hi CWs_34 dX1_spread_6 (fun H locs w => ?_)
  refine lv_iconst (v := 0) hx hb dX1_spread_7 (by decide) ?_
  refine lv_istore_n (lv' := [(3, .int _), (0, .ref _), (1, .int _), (2, .int _)]) hx hb dX1_spread_8 rfl hl (by decide) rfl (fun ls hl => ?_)
  exact hT9 _ _ _ _ h _ _ _ (lv_sub hl [1, 2, 3, 0] rfl) w
def C_spreadS4_VC (dd : Nat) (x1 : Int32) (x2 : Int32) (S : CS) (post : CS → Prop) : Prop := ∀ (T9 : Int32 → Int32 → Int32 → CS → Prop), (∀ (x1 : Int32) (x2 : Int32) (x3 : Int32) (S : CS), C_spreadS4_w9 dd post T9 x1 x2 x3 S → T9 x1 x2 x3 S) → C_spreadS4_w0 dd post T9 x1 x2 S
theorem C_spreadS4_ok {dd : Nat} {x1 : Int32} {x2 : Int32} {S : CS} {post : CS → Prop} (h : C_spreadS4_VC dd x1 x2 S post) : C_spreadS4 (dd + 1) x1 x2 S post := by
  intro l D dA o sz
  refine cr_start (fun A => va_Qv post (cB D dA o A) A) rfl (Nat.le_of_ble_eq_true rfl) (by decide) ?_
  intro p e s m args below meth c ls A C w hl
  have hl : lv_has ls 6 [(0, .ref (o 4)), (1, .int x1), (2, .int x2)] := hl
  have h := h (fun (x1 : Int32) (x2 : Int32) (x3 : Int32) S => ∀ (H : Heap) (locs : List Loc) (ls : Array Slot), lv_has ls 6 [(0, .ref (o 4)), (1, .int x1), (2, .int x2), (3, .int x3)] → cw D dA o A s S H locs → W p l e (rC_spreadS4 (dd + 1)) s m args below meth c H locs 0 0 (cQv below args s D dA o A (rC_spreadS4 (dd + 1)) post) (F0 m 9 ls [])) (fun _ _ _ S h H locs ls hl w => C_spreadS4_a9 C (fun _ _ _ _ h => h) h hl w)
  exact C_spreadS4_a0 C (fun _ _ _ _ h => h) h (lv_sub hl [0, 1, 2] rfl) w
