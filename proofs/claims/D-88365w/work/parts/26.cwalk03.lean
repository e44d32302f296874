/-! ThirdSheets$Sort.find()I -/
def C_findS4_w83 (post : Int32 → CS → Prop) (T7 : Int32 → CS → Prop) (T38 : Int32 → CS → Prop) (x1 : Int32) (S : CS) : Prop :=
  T38 (x1 + (1 : Int32)) S
set_option maxHeartbeats 4000000 in
set_option maxRecDepth 100000 in
theorem C_findS4_a83 {p : Program} {l : Launch} {e : Env} {s : State} {m : MethodId} {args : Array Value} {below : List Frame} {meth : Method} {c : Code} {D : va_G} {dA : Nat → ClassId} {o : Nat → Nat} {A : Nat → Prop} {post : Int32 → CS → Prop} {T7 : Int32 → CS → Prop} {T38 : Int32 → CS → Prop} (C : cC RX1 p m c cX1_find 2 s args meth (Option.some Jvm.ClassFile.FieldType.int) A) (hT7 : ∀ (x1 : Int32) (S : CS), T7 x1 S → ∀ (H : Heap) (locs : List Loc) (ls : Array Slot), lv_has ls 2 [(0, .ref (o 4)), (1, .int x1)] → cw D dA o A s S H locs → W p l e (rC_findS4) s m args below meth c H locs 0 0 (cQi below args s D dA o A (rC_findS4) post) (F0 m 7 ls [])) (hT38 : ∀ (x1 : Int32) (S : CS), T38 x1 S → ∀ (H : Heap) (locs : List Loc) (ls : Array Slot), lv_has ls 2 [(0, .ref (o 4)), (1, .int x1)] → cw D dA o A s S H locs → W p l e (rC_findS4) s m args below meth c H locs 0 0 (cQi below args s D dA o A (rC_findS4) post) (F0 m 38 ls [])) {x1 : Int32} {S : CS} (h : C_findS4_w83 post T7 T38 x1 S) {H : Heap} {locs : List Loc} {ls : Array Slot} (hl : lv_has ls 2 [(0, .ref (o 4)), (1, .int x1)]) (w : cw D dA o A s S H locs) : W p l e (rC_findS4) s m args below meth c H locs 0 0 (cQi below args s D dA o A (rC_findS4) post) (F0 m 83 ls []) := by
  unfold C_findS4_w83 at h
  obtain ⟨⟨hx, hb, hml, hown, hts⟩, hr, hlk, hA⟩ := id C
  refine lv_iinc (v := _ + (1 : Int32)) (lv' := [(1, .int _), (0, .ref _)]) hx hb dX1_find_83 hl (k := 1) rfl rfl (by decide) rfl (fun ls hl => ?_)
  refine lv_goto (tgt := 38) hx hb dX1_find_86 (by decide) ?_
  exact hT38 _ _ h _ _ _ (lv_sub hl [1, 0] rfl) w
def C_findS4_w38 (post : Int32 → CS → Prop) (T7 : Int32 → CS → Prop) (T38 : Int32 → CS → Prop) (x1 : Int32) (S : CS) : Prop :=
  ((((kF S 1) * (12 : Int32)) ≤ x1 → post (kF S 44) S) ∧ (¬ ((kF S 1) * (12 : Int32)) ≤ x1 → (vp_in x1 36 ∧ ((¬ (kI S 34 (x1).toNatClampNeg) = (-1 : Int32) → C_findS4_w83 post T7 T38 x1 S) ∧ ((kI S 34 (x1).toNatClampNeg) = (-1 : Int32) → C_spreadS4 36 x1 (kF S 44) S (fun (S1 : CS) => (fun (S2 : CS) => C_findS4_w83 post T7 T38 x1 S2) (tF S1 44 ((kF S1 44) + (1 : Int32)))))))))
set_option maxHeartbeats 4000000 in
set_option maxRecDepth 100000 in
theorem C_findS4_a38 {p : Program} {l : Launch} {e : Env} {s : State} {m : MethodId} {args : Array Value} {below : List Frame} {meth : Method} {c : Code} {D : va_G} {dA : Nat → ClassId} {o : Nat → Nat} {A : Nat → Prop} {post : Int32 → CS → Prop} {T7 : Int32 → CS → Prop} {T38 : Int32 → CS → Prop} (C : cC RX1 p m c cX1_find 2 s args meth (Option.some Jvm.ClassFile.FieldType.int) A) (hT7 : ∀ (x1 : Int32) (S : CS), T7 x1 S → ∀ (H : Heap) (locs : List Loc) (ls : Array Slot), lv_has ls 2 [(0, .ref (o 4)), (1, .int x1)] → cw D dA o A s S H locs → W p l e (rC_findS4) s m args below meth c H locs 0 0 (cQi below args s D dA o A (rC_findS4) post) (F0 m 7 ls [])) (hT38 : ∀ (x1 : Int32) (S : CS), T38 x1 S → ∀ (H : Heap) (locs : List Loc) (ls : Array Slot), lv_has ls 2 [(0, .ref (o 4)), (1, .int x1)] → cw D dA o A s S H locs → W p l e (rC_findS4) s m args below meth c H locs 0 0 (cQi below args s D dA o A (rC_findS4) post) (F0 m 38 ls [])) {x1 : Int32} {S : CS} (h : C_findS4_w38 post T7 T38 x1 S) {H : Heap} {locs : List Loc} {ls : Array Slot} (hl : lv_has ls 2 [(0, .ref (o 4)), (1, .int x1)]) (w : cw D dA o A s S H locs) : W p l e (rC_findS4) s m args below meth c H locs 0 0 (cQi below args s D dA o A (rC_findS4) post) (F0 m 38 ls []) := by
  unfold C_findS4_w38 at h
  obtain ⟨⟨hx, hb, hml, hown, hts⟩, hr, hlk, hA⟩ := id C
  refine lv_iload_n hx hb dX1_find_38 rfl (lv_at hl 1 rfl) ?_
  refine lv_aload_n hx hb dX1_find_39 rfl (lv_at hl 0 rfl) ?_
  refine cr_get C w 3 rfl rfl in_X4' 3 (by decide) q118 rfl rfl dX1_find_40 ?_
  refine cr_getN C w 0 rfl rfl in_X0 1 (by decide) nwF_RX1_26 rfl rfl dX1_find_43 ?_
  refine lv_aload_n hx hb dX1_find_46 rfl (lv_at hl 0 rfl) ?_
  refine cr_get C w 3 rfl rfl in_X4' 0 (by decide) q113 rfl rfl dX1_find_47 ?_
  refine lv_imul hx hb dX1_find_50 ?_
  obtain ⟨h1, h2⟩ := h
  refine lv_icmp_ge (tgt := 89) hx hb dX1_find_51 (by decide) (fun c1 => ?_) (fun c1 => ?_)
  · have h := h1 c1
    refine lv_aload_n hx hb dX1_find_89 rfl (lv_at hl 0 rfl) ?_
    refine cr_get C w 3 rfl rfl in_X4' 2 (by decide) q115 rfl rfl dX1_find_90 ?_
    exact cr_iret C w h (Nat.le_of_ble_eq_true rfl) (Nat.le_of_ble_eq_true rfl) dX1_find_93
  · have h := h2 c1
    refine lv_aload_n hx hb dX1_find_54 rfl (lv_at hl 0 rfl) ?_
    refine cr_get C w 3 rfl rfl in_X4' 1 (by decide) q114 rfl rfl dX1_find_55 ?_
    refine lv_iload_n hx hb dX1_find_58 rfl (lv_at hl 1 rfl) ?_
    obtain ⟨hi, h⟩ := h
    refine cr_iald C w 16 rfl hi dX1_find_59 ?_
    refine lv_iconst (v := -1) hx hb dX1_find_60 (by decide) ?_
    obtain ⟨h1, h2⟩ := h
    refine lv_icmp_ne (tgt := 83) hx hb dX1_find_61 (by decide) (fun c1 => ?_) (fun c1 => ?_)
    · have h := h1 c1
      exact C_findS4_a83 C hT7 hT38 h (lv_sub hl [0, 1] rfl) w
    · have h := h2 c1
      refine lv_aload_n hx hb dX1_find_64 rfl (lv_at hl 0 rfl) ?_
      refine lv_iload_n hx hb dX1_find_65 rfl (lv_at hl 1 rfl) ?_
      refine lv_aload_n hx hb dX1_find_66 rfl (lv_at hl 0 rfl) ?_
      refine cr_get C w 3 rfl rfl in_X4' 2 (by decide) q115 rfl rfl dX1_find_67 ?_
      refine cr_callUV (owner := RX1) (rest := []) (b := fun o => o 4) C w h (recv4 w) (cr_cuSpread C w nwS_4 2 q295 q935 q297 q83 q298 rfl rfl (by decide +kernel) ⟨Nat.le_of_ble_eq_true rfl, Nat.le_of_ble_eq_true rfl⟩) rfl hl.1 rfl (Nat.le_of_ble_eq_true rfl) ⟨Nat.le_of_ble_eq_true rfl, Nat.le_of_ble_eq_true rfl⟩ dX1_find_70 (fun S1 H locs h w => ?_)
      refine lv_aload_n hx hb dX1_find_73 rfl (lv_at hl 0 rfl) ?_
      refine lv_dup hx hb dX1_find_74 rfl ?_
      refine cr_get C w 3 rfl rfl in_X4' 2 (by decide) q115 rfl rfl dX1_find_75 ?_
      refine lv_iconst (v := 1) hx hb dX1_find_78 (by decide) ?_
      refine lv_iadd hx hb dX1_find_79 ?_
      refine cr_putM C w 3 4 rfl rfl in_X4' tyX4 tyX4_ok' nmX4' rfl rfl q115 CWm_4 dX1_find_80 (fun H locs w => ?_)
      exact C_findS4_a83 C hT7 hT38 h (lv_sub hl [0, 1] rfl) w
def C_findS4_w7 (post : Int32 → CS → Prop) (T7 : Int32 → CS → Prop) (T38 : Int32 → CS → Prop) (x1 : Int32) (S : CS) : Prop :=
  ((((kF S 1) * (12 : Int32)) ≤ x1 → T38 (0 : Int32) S) ∧ (¬ ((kF S 1) * (12 : Int32)) ≤ x1 → (vp_in x1 36 ∧ (fun (S1 : CS) => T7 (x1 + (1 : Int32)) S1) (tI S 34 (x1).toNatClampNeg (-1 : Int32)))))
set_option maxHeartbeats 4000000 in
set_option maxRecDepth 100000 in
theorem C_findS4_a7 {p : Program} {l : Launch} {e : Env} {s : State} {m : MethodId} {args : Array Value} {below : List Frame} {meth : Method} {c : Code} {D : va_G} {dA : Nat → ClassId} {o : Nat → Nat} {A : Nat → Prop} {post : Int32 → CS → Prop} {T7 : Int32 → CS → Prop} {T38 : Int32 → CS → Prop} (C : cC RX1 p m c cX1_find 2 s args meth (Option.some Jvm.ClassFile.FieldType.int) A) (hT7 : ∀ (x1 : Int32) (S : CS), T7 x1 S → ∀ (H : Heap) (locs : List Loc) (ls : Array Slot), lv_has ls 2 [(0, .ref (o 4)), (1, .int x1)] → cw D dA o A s S H locs → W p l e (rC_findS4) s m args below meth c H locs 0 0 (cQi below args s D dA o A (rC_findS4) post) (F0 m 7 ls [])) (hT38 : ∀ (x1 : Int32) (S : CS), T38 x1 S → ∀ (H : Heap) (locs : List Loc) (ls : Array Slot), lv_has ls 2 [(0, .ref (o 4)), (1, .int x1)] → cw D dA o A s S H locs → W p l e (rC_findS4) s m args below meth c H locs 0 0 (cQi below args s D dA o A (rC_findS4) post) (F0 m 38 ls [])) {x1 : Int32} {S : CS} (h : C_findS4_w7 post T7 T38 x1 S) {H : Heap} {locs : List Loc} {ls : Array Slot} (hl : lv_has ls 2 [(0, .ref (o 4)), (1, .int x1)]) (w : cw D dA o A s S H locs) : W p l e (rC_findS4) s m args below meth c H locs 0 0 (cQi below args s D dA o A (rC_findS4) post) (F0 m 7 ls []) := by
  unfold C_findS4_w7 at h
  obtain ⟨⟨hx, hb, hml, hown, hts⟩, hr, hlk, hA⟩ := id C
  refine lv_iload_n hx hb dX1_find_7 rfl (lv_at hl 1 rfl) ?_
  refine lv_aload_n hx hb dX1_find_8 rfl (lv_at hl 0 rfl) ?_
  refine cr_get C w 3 rfl rfl in_X4' 3 (by decide) q118 rfl rfl dX1_find_9 ?_
  refine cr_getN C w 0 rfl rfl in_X0 1 (by decide) nwF_RX1_26 rfl rfl dX1_find_12 ?_
  refine lv_aload_n hx hb dX1_find_15 rfl (lv_at hl 0 rfl) ?_
  refine cr_get C w 3 rfl rfl in_X4' 0 (by decide) q113 rfl rfl dX1_find_16 ?_
  refine lv_imul hx hb dX1_find_19 ?_
  obtain ⟨h1, h2⟩ := h
  refine lv_icmp_ge (tgt := 36) hx hb dX1_find_20 (by decide) (fun c1 => ?_) (fun c1 => ?_)
  · have h := h1 c1
    refine lv_iconst (v := 0) hx hb dX1_find_36 (by decide) ?_
    refine lv_istore_n (lv' := [(1, .int _), (0, .ref _)]) hx hb dX1_find_37 rfl hl (by decide) rfl (fun ls hl => ?_)
    exact hT38 _ _ h _ _ _ (lv_sub hl [1, 0] rfl) w
  · have h := h2 c1
    refine lv_aload_n hx hb dX1_find_23 rfl (lv_at hl 0 rfl) ?_
    refine cr_get C w 3 rfl rfl in_X4' 1 (by decide) q114 rfl rfl dX1_find_24 ?_
    refine lv_iload_n hx hb dX1_find_27 rfl (lv_at hl 1 rfl) ?_
    refine lv_iconst (v := -1) hx hb dX1_find_28 (by decide) ?_
    obtain ⟨hi, h⟩ := h
    refine cr_iast C w 16 rfl hi CWs_34 dX1_find_29 (fun H locs w => ?_)
    refine lv_iinc (v := _ + (1 : Int32)) (lv' := [(1, .int _), (0, .ref _)]) hx hb dX1_find_30 hl (k := 1) rfl rfl (by decide) rfl (fun ls hl => ?_)
    refine lv_goto (tgt := 7) hx hb dX1_find_33 (by decide) ?_
    exact hT7 _ _ h _ _ _ (lv_sub hl [1, 0] rfl) w
def C_findS4_w0 (post : Int32 → CS → Prop) (T7 : Int32 → CS → Prop) (T38 : Int32 → CS → Prop) (S : CS) : Prop :=
  (fun (S1 : CS) => T7 (0 : Int32) S1) (tF S 44 (0 : Int32))
set_option maxHeartbeats 4000000 in
set_option maxRecDepth 100000 in
theorem C_findS4_a0 {p : Program} {l : Launch} {e : Env} {s : State} {m : MethodId} {args : Array Value} {below : List Frame} {meth : Method} {c : Code} {D : va_G} {dA : Nat → ClassId} {o : Nat → Nat} {A : Nat → Prop} {post : Int32 → CS → Prop} {T7 : Int32 → CS → Prop} {T38 : Int32 → CS → Prop} (C : cC RX1 p m c cX1_find 2 s args meth (Option.some Jvm.ClassFile.FieldType.int) A) (hT7 : ∀ (x1 : Int32) (S : CS), T7 x1 S → ∀ (H : Heap) (locs : List Loc) (ls : Array Slot), lv_has ls 2 [(0, .ref (o 4)), (1, .int x1)] → cw D dA o A s S H locs → W p l e (rC_findS4) s m args below meth c H locs 0 0 (cQi below args s D dA o A (rC_findS4) post) (F0 m 7 ls [])) (hT38 : ∀ (x1 : Int32) (S : CS), T38 x1 S → ∀ (H : Heap) (locs : List Loc) (ls : Array Slot), lv_has ls 2 [(0, .ref (o 4)), (1, .int x1)] → cw D dA o A s S H locs → W p l e (rC_findS4) s m args below meth c H locs 0 0 (cQi below args s D dA o A (rC_findS4) post) (F0 m 38 ls [])) {S : CS} (h : C_findS4_w0 post T7 T38 S) {H : Heap} {locs : List Loc} {ls : Array Slot} (hl : lv_has ls 2 [(0, .ref (o 4))]) (w : cw D dA o A s S H locs) : W p l e (rC_findS4) s m args below meth c H locs 0 0 (cQi below args s D dA o A (rC_findS4) post) (F0 m 0 ls []) := by
  unfold C_findS4_w0 at h
  obtain ⟨⟨hx, hb, hml, hown, hts⟩, hr, hlk, hA⟩ := id C
  refine lv_aload_n hx hb dX1_find_0 rfl (lv_at hl 0 rfl) ?_
  refine lv_iconst (v := 0) hx hb dX1_find_1 (by decide) ?_
  refine cr_putM C w 3 4 rfl rfl in_X4' tyX4 tyX4_ok' nmX4' rfl rfl q115 CWm_4 dX1_find_2 (fun H locs w => ?_)
  refine lv_iconst (v := 0) hx hb dX1_find_5 (by decide) ?_
  refine lv_istore_n (lv' := [(1, .int _), (0, .ref _)]) hx hb dX1_find_6 rfl hl (by decide) rfl (fun ls hl => ?_)
  exact hT7 _ _ h _ _ _ (lv_sub hl [1, 0] rfl) w
def C_findS4_VC (S : CS) (post : Int32 → CS → Prop) : Prop := ∀ (T7 : Int32 → CS → Prop) (T38 : Int32 → CS → Prop), (∀ (x1 : Int32) (S : CS), C_findS4_w7 post T7 T38 x1 S → T7 x1 S) → (∀ (x1 : Int32) (S : CS), C_findS4_w38 post T7 T38 x1 S → T38 x1 S) → C_findS4_w0 post T7 T38 S
theorem C_findS4_ok {S : CS} {post : Int32 → CS → Prop} (h : C_findS4_VC S post) : C_findS4 S post := by
  intro l D dA o sz
  refine cr_start (fun A => va_Qi post (cB D dA o A) A) rfl (Nat.le_of_ble_eq_true rfl) (by decide) ?_
  intro p e s m args below meth c ls A C w hl
  have hl : lv_has ls 2 [(0, .ref (o 4))] := hl
  have h := h (fun (x1 : Int32) S => ∀ (H : Heap) (locs : List Loc) (ls : Array Slot), lv_has ls 2 [(0, .ref (o 4)), (1, .int x1)] → cw D dA o A s S H locs → W p l e (rC_findS4) s m args below meth c H locs 0 0 (cQi below args s D dA o A (rC_findS4) post) (F0 m 7 ls [])) (fun (x1 : Int32) S => ∀ (H : Heap) (locs : List Loc) (ls : Array Slot), lv_has ls 2 [(0, .ref (o 4)), (1, .int x1)] → cw D dA o A s S H locs → W p l e (rC_findS4) s m args below meth c H locs 0 0 (cQi below args s D dA o A (rC_findS4) post) (F0 m 38 ls [])) (fun _ S h H locs ls hl w => C_findS4_a7 C (fun _ _ h => h) (fun _ _ h => h) h hl w) (fun _ S h H locs ls hl w => C_findS4_a38 C (fun _ _ h => h) (fun _ _ h => h) h hl w)
  exact C_findS4_a0 C (fun _ _ h => h) (fun _ _ h => h) h (lv_sub hl [0] rfl) w

/-! ThirdSheets.bent(I)I -/
def C_bent_w43 (post : Int32 → CS → Prop) (v0 : Int32) (S : CS) : Prop :=
  post v0 S
set_option maxHeartbeats 4000000 in
set_option maxRecDepth 100000 in
theorem C_bent_a43 {p : Program} {l : Launch} {e : Env} {s : State} {m : MethodId} {args : Array Value} {below : List Frame} {meth : Method} {c : Code} {D : va_G} {dA : Nat → ClassId} {o : Nat → Nat} {A : Nat → Prop} {post : Int32 → CS → Prop} (C : cC RX0 p m c cX0_bent 2 s args meth (Option.some Jvm.ClassFile.FieldType.int) A) {v0 : Int32} {S : CS} (h : C_bent_w43 post v0 S) {H : Heap} {locs : List Loc} {ls : Array Slot} (hl : lv_has ls 2 [(0, .ref (o 0))]) (w : cw D dA o A s S H locs) : W p l e (rC_bent) s m args below meth c H locs 0 0 (cQi below args s D dA o A (rC_bent) post) (F0 m 43 ls [.int v0]) := by
  unfold C_bent_w43 at h
  obtain ⟨⟨hx, hb, hml, hown, hts⟩, hr, hlk, hA⟩ := id C
  exact cr_iret C w h (Nat.le_of_ble_eq_true rfl) (Nat.le_of_ble_eq_true rfl) dX0_bent_43
def C_bent_w42 (post : Int32 → CS → Prop) (S : CS) : Prop :=
  C_bent_w43 post (0 : Int32) S
set_option maxHeartbeats 4000000 in
set_option maxRecDepth 100000 in
theorem C_bent_a42 {p : Program} {l : Launch} {e : Env} {s : State} {m : MethodId} {args : Array Value} {below : List Frame} {meth : Method} {c : Code} {D : va_G} {dA : Nat → ClassId} {o : Nat → Nat} {A : Nat → Prop} {post : Int32 → CS → Prop} (C : cC RX0 p m c cX0_bent 2 s args meth (Option.some Jvm.ClassFile.FieldType.int) A) {S : CS} (h : C_bent_w42 post S) {H : Heap} {locs : List Loc} {ls : Array Slot} (hl : lv_has ls 2 [(0, .ref (o 0))]) (w : cw D dA o A s S H locs) : W p l e (rC_bent) s m args below meth c H locs 0 0 (cQi below args s D dA o A (rC_bent) post) (F0 m 42 ls []) := by
  unfold C_bent_w42 at h
  obtain ⟨⟨hx, hb, hml, hown, hts⟩, hr, hlk, hA⟩ := id C
  refine lv_iconst (v := 0) hx hb dX0_bent_42 (by decide) ?_
  exact C_bent_a43 C h (lv_sub hl [0] rfl) w
def C_bent_w0 (post : Int32 → CS → Prop) (x1 : Int32) (S : CS) : Prop :=
  C_findS3 S (fun (r1 : Int32) (S1 : CS) => C_isIn x1 (0 : Int32) (r1 - (1 : Int32)) S1 (fun (r2 : Int32) (S2 : CS) => ((¬ r2 = 0 → C_findS4 S2 (fun (r3 : Int32) (S3 : CS) => ((r3 ≤ 0 → C_bent_w42 post S3) ∧ (¬ r3 ≤ 0 → C_isBent x1 S3 (fun (r4 : Int32) (S4 : CS) => ((r4 = 0 → C_bent_w42 post S4) ∧ (¬ r4 = 0 → C_bent_w43 post (1 : Int32) S4))))))) ∧ (r2 = 0 → post (-2 : Int32) S2))))
set_option maxHeartbeats 4000000 in
set_option maxRecDepth 100000 in
theorem C_bent_a0 {p : Program} {l : Launch} {e : Env} {s : State} {m : MethodId} {args : Array Value} {below : List Frame} {meth : Method} {c : Code} {D : va_G} {dA : Nat → ClassId} {o : Nat → Nat} {A : Nat → Prop} {post : Int32 → CS → Prop} (C : cC RX0 p m c cX0_bent 2 s args meth (Option.some Jvm.ClassFile.FieldType.int) A) {x1 : Int32} {S : CS} (h : C_bent_w0 post x1 S) {H : Heap} {locs : List Loc} {ls : Array Slot} (hl : lv_has ls 2 [(0, .ref (o 0)), (1, .int x1)]) (w : cw D dA o A s S H locs) : W p l e (rC_bent) s m args below meth c H locs 0 0 (cQi below args s D dA o A (rC_bent) post) (F0 m 0 ls []) := by
  unfold C_bent_w0 at h
  obtain ⟨⟨hx, hb, hml, hown, hts⟩, hr, hlk, hA⟩ := id C
  refine lv_iload_n hx hb dX0_bent_0 rfl (lv_at hl 1 rfl) ?_
  refine lv_iconst (v := 0) hx hb dX0_bent_1 (by decide) ?_
  refine lv_aload_n hx hb dX0_bent_2 rfl (lv_at hl 0 rfl) ?_
  refine cr_get C w 0 rfl rfl in_X0 3 (by decide) q167 rfl rfl dX0_bent_3 ?_
  refine cr_callUI (owner := RX1) (rest := [.int _, .int _]) (b := fun o => o 3) C w h (recv3 w) (va_cwU 0 hts (lw_U q326 q327 q328 q293 q83 q294) rfl rfl rfl rfl (by decide +kernel) ⟨Nat.le_of_ble_eq_true rfl, Nat.le_of_ble_eq_true rfl⟩) rfl hl.1 rfl (Nat.le_of_ble_eq_true rfl) ⟨Nat.le_of_ble_eq_true rfl, Nat.le_of_ble_eq_true rfl⟩ dX0_bent_6 (fun r1 S1 H locs h w => ?_)
  refine lv_iconst (v := 1) hx hb dX0_bent_9 (by decide) ?_
  refine lv_isub hx hb dX0_bent_10 ?_
  refine cr_callSI (rest := []) C w h (va_cwS 3 hts (lw_S q244 q245 q82 q246) rfl rfl rfl C_isIn_d ⟨Nat.le_of_ble_eq_true rfl, Nat.le_of_ble_eq_true rfl⟩) rfl hl.1 rfl (Nat.le_of_ble_eq_true rfl) ⟨Nat.le_of_ble_eq_true rfl, Nat.le_of_ble_eq_true rfl⟩ dX0_bent_11 (fun r2 S2 H locs h w => ?_)
  obtain ⟨h1, h2⟩ := h
  refine lv_if_ne (tgt := 20) hx hb dX0_bent_14 (by decide) (fun c1 => ?_) (fun c1 => ?_)
  · have h := h1 c1
    refine lv_aload_n hx hb dX0_bent_20 rfl (lv_at hl 0 rfl) ?_
    refine cr_get C w 0 rfl rfl in_X0 4 (by decide) q168 rfl rfl dX0_bent_21 ?_
    refine cr_callUI (owner := RX1) (rest := []) (b := fun o => o 4) C w h (recv4 w) (va_cwU 0 hts (lw_U q342 q343 q344 q293 q83 q294) rfl rfl rfl rfl (by decide +kernel) ⟨Nat.le_of_ble_eq_true rfl, Nat.le_of_ble_eq_true rfl⟩) rfl hl.1 rfl (Nat.le_of_ble_eq_true rfl) ⟨Nat.le_of_ble_eq_true rfl, Nat.le_of_ble_eq_true rfl⟩ dX0_bent_24 (fun r3 S3 H locs h w => ?_)
    obtain ⟨h1, h2⟩ := h
    refine lv_if_le (tgt := 42) hx hb dX0_bent_27 (by decide) (fun c1 => ?_) (fun c1 => ?_)
    · have h := h1 c1
      exact C_bent_a42 C h (lv_sub hl [0] rfl) w
    · have h := h2 c1
      refine lv_aload_n hx hb dX0_bent_30 rfl (lv_at hl 0 rfl) ?_
      refine lv_iload_n hx hb dX0_bent_31 rfl (lv_at hl 1 rfl) ?_
      refine cr_callVI (rest := []) (b := (fun o => o 0)) C w h (recv0 w) (cwV 1 hts (lw_V q345 q347 qs2 q82 q348) rfl rfl rfl C_isBent_d ⟨Nat.le_of_ble_eq_true rfl, Nat.le_of_ble_eq_true rfl⟩) rfl hl.1 rfl (Nat.le_of_ble_eq_true rfl) ⟨Nat.le_of_ble_eq_true rfl, Nat.le_of_ble_eq_true rfl⟩ dX0_bent_32 (fun r4 S4 H locs h w => ?_)
      obtain ⟨h1, h2⟩ := h
      refine lv_if_eq (tgt := 42) hx hb dX0_bent_35 (by decide) (fun c1 => ?_) (fun c1 => ?_)
      · have h := h1 c1
        exact C_bent_a42 C h (lv_sub hl [0] rfl) w
      · have h := h2 c1
        refine lv_iconst (v := 1) hx hb dX0_bent_38 (by decide) ?_
        refine lv_goto (tgt := 43) hx hb dX0_bent_39 (by decide) ?_
        exact C_bent_a43 C h (lv_sub hl [0] rfl) w
  · have h := h2 c1
    refine lv_bipush (v := -2) hx hb dX0_bent_17 (by decide) ?_
    exact cr_iret C w h (Nat.le_of_ble_eq_true rfl) (Nat.le_of_ble_eq_true rfl) dX0_bent_19
def C_bent_VC (x1 : Int32) (S : CS) (post : Int32 → CS → Prop) : Prop := C_bent_w0 post x1 S
theorem C_bent_ok {x1 : Int32} {S : CS} {post : Int32 → CS → Prop} (h : C_bent_VC x1 S post) : C_bent x1 S post := by
  intro l D dA o sz
  refine cr_start (fun A => va_Qi post (cB D dA o A) A) rfl (Nat.le_of_ble_eq_true rfl) (by decide) ?_
  intro p e s m args below meth c ls A C w hl
  have hl : lv_has ls 2 [(0, .ref (o 0)), (1, .int x1)] := hl
  exact C_bent_a0 C h (lv_sub hl [0, 1] rfl) w

/-! ThirdSheets$Sort.first(I)I -/
def C_firstS4_w2 (post : Int32 → CS → Prop) (T2 : Int32 → Int32 → CS → Prop) (x1 : Int32) (x2 : Int32) (S : CS) : Prop :=
  (vp_in x2 36 ∧ (((kI S 34 (x2).toNatClampNeg) = x1 → post x2 S) ∧ (¬ (kI S 34 (x2).toNatClampNeg) = x1 → T2 x1 (x2 + (1 : Int32)) S)))
set_option maxHeartbeats 4000000 in
set_option maxRecDepth 100000 in
theorem C_firstS4_a2 {p : Program} {l : Launch} {e : Env} {s : State} {m : MethodId} {args : Array Value} {below : List Frame} {meth : Method} {c : Code} {D : va_G} {dA : Nat → ClassId} {o : Nat → Nat} {A : Nat → Prop} {post : Int32 → CS → Prop} {T2 : Int32 → Int32 → CS → Prop} (C : cC RX1 p m c cX1_first 3 s args meth (Option.some Jvm.ClassFile.FieldType.int) A) (hT2 : ∀ (x1 : Int32) (x2 : Int32) (S : CS), T2 x1 x2 S → ∀ (H : Heap) (locs : List Loc) (ls : Array Slot), lv_has ls 3 [(0, .ref (o 4)), (1, .int x1), (2, .int x2)] → cw D dA o A s S H locs → W p l e (rC_firstS4) s m args below meth c H locs 0 0 (cQi below args s D dA o A (rC_firstS4) post) (F0 m 2 ls [])) {x1 : Int32} {x2 : Int32} {S : CS} (h : C_firstS4_w2 post T2 x1 x2 S) {H : Heap} {locs : List Loc} {ls : Array Slot} (hl : lv_has ls 3 [(0, .ref (o 4)), (1, .int x1), (2, .int x2)]) (w : cw D dA o A s S H locs) : W p l e (rC_firstS4) s m args below meth c H locs 0 0 (cQi below args s D dA o A (rC_firstS4) post) (F0 m 2 ls []) := by
  unfold C_firstS4_w2 at h
  obtain ⟨⟨hx, hb, hml, hown, hts⟩, hr, hlk, hA⟩ := id C
  refine lv_aload_n hx hb dX1_first_2 rfl (lv_at hl 0 rfl) ?_
  refine cr_get C w 3 rfl rfl in_X4' 1 (by decide) q114 rfl rfl dX1_first_3 ?_
  refine lv_iload_n hx hb dX1_first_6 rfl (lv_at hl 2 rfl) ?_
  obtain ⟨hi, h⟩ := h
  refine cr_iald C w 16 rfl hi dX1_first_7 ?_
  refine lv_iload_n hx hb dX1_first_8 rfl (lv_at hl 1 rfl) ?_
  obtain ⟨h1, h2⟩ := h
  refine lv_icmp_eq (tgt := 18) hx hb dX1_first_9 (by decide) (fun c1 => ?_) (fun c1 => ?_)
  · have h := h1 c1
    refine lv_iload_n hx hb dX1_first_18 rfl (lv_at hl 2 rfl) ?_
    exact cr_iret C w h (Nat.le_of_ble_eq_true rfl) (Nat.le_of_ble_eq_true rfl) dX1_first_19
  · have h := h2 c1
    refine lv_iinc (v := _ + (1 : Int32)) (lv' := [(2, .int _), (0, .ref _), (1, .int _)]) hx hb dX1_first_12 hl (k := 2) rfl rfl (by decide) rfl (fun ls hl => ?_)
    refine lv_goto (tgt := 2) hx hb dX1_first_15 (by decide) ?_
    exact hT2 _ _ _ h _ _ _ (lv_sub hl [1, 2, 0] rfl) w
def C_firstS4_w0 (post : Int32 → CS → Prop) (T2 : Int32 → Int32 → CS → Prop) (x1 : Int32) (S : CS) : Prop :=
  T2 x1 (0 : Int32) S
set_option maxHeartbeats 4000000 in
set_option maxRecDepth 100000 in
theorem C_firstS4_a0 {p : Program} {l : Launch} {e : Env} {s : State} {m : MethodId} {args : Array Value} {below : List Frame} {meth : Method} {c : Code} {D : va_G} {dA : Nat → ClassId} {o : Nat → Nat} {A : Nat → Prop} {post : Int32 → CS → Prop} {T2 : Int32 → Int32 → CS → Prop} (C : cC RX1 p m c cX1_first 3 s args meth (Option.some Jvm.ClassFile.FieldType.int) A) (hT2 : ∀ (x1 : Int32) (x2 : Int32) (S : CS), T2 x1 x2 S → ∀ (H : Heap) (locs : List Loc) (ls : Array Slot), lv_has ls 3 [(0, .ref (o 4)), (1, .int x1), (2, .int x2)] → cw D dA o A s S H locs → W p l e (rC_firstS4) s m args below meth c H locs 0 0 (cQi below args s D dA o A (rC_firstS4) post) (F0 m 2 ls [])) {x1 : Int32} {S : CS} (h : C_firstS4_w0 post T2 x1 S) {H : Heap} {locs : List Loc} {ls : Array Slot} (hl : lv_has ls 3 [(0, .ref (o 4)), (1, .int x1)]) (w : cw D dA o A s S H locs) : W p l e (rC_firstS4) s m args below meth c H locs 0 0 (cQi below args s D dA o A (rC_firstS4) post) (F0 m 0 ls []) := by
  unfold C_firstS4_w0 at h
  obtain ⟨⟨hx, hb, hml, hown, hts⟩, hr, hlk, hA⟩ := id C
  refine lv_iconst (v := 0) hx hb dX1_first_0 (by decide) ?_
  refine lv_istore_n (lv' := [(2, .int _), (0, .ref _), (1, .int _)]) hx hb dX1_first_1 rfl hl (by decide) rfl (fun ls hl => ?_)
  exact hT2 _ _ _ h _ _ _ (lv_sub hl [1, 2, 0] rfl) w
def C_firstS4_VC (x1 : Int32) (S : CS) (post : Int32 → CS → Prop) : Prop := ∀ (T2 : Int32 → Int32 → CS → Prop), (∀ (x1 : Int32) (x2 : Int32) (S : CS), C_firstS4_w2 post T2 x1 x2 S → T2 x1 x2 S) → C_firstS4_w0 post T2 x1 S
theorem C_firstS4_ok {x1 : Int32} {S : CS} {post : Int32 → CS → Prop} (h : C_firstS4_VC x1 S post) : C_firstS4 x1 S post := by
  intro l D dA o sz
  refine cr_start (fun A => va_Qi post (cB D dA o A) A) rfl (Nat.le_of_ble_eq_true rfl) (by decide) ?_
  intro p e s m args below meth c ls A C w hl
  have hl : lv_has ls 3 [(0, .ref (o 4)), (1, .int x1)] := hl
  have h := h (fun (x1 : Int32) (x2 : Int32) S => ∀ (H : Heap) (locs : List Loc) (ls : Array Slot), lv_has ls 3 [(0, .ref (o 4)), (1, .int x1), (2, .int x2)] → cw D dA o A s S H locs → W p l e (rC_firstS4) s m args below meth c H locs 0 0 (cQi below args s D dA o A (rC_firstS4) post) (F0 m 2 ls [])) (fun _ _ S h H locs ls hl w => C_firstS4_a2 C (fun _ _ _ h => h) h hl w)
  exact C_firstS4_a0 C (fun _ _ _ h => h) h (lv_sub hl [0, 1] rfl) w

/-! ThirdSheets.linkOf(I)I -/
def C_linkOf_w210 (post : Int32 → CS → Prop) (T10 : Int32 → Int32 → Int32 → Int32 → Int32 → CS → Prop) (T22 : Int32 → Int32 → Int32 → Int32 → Int32 → Int32 → CS → Prop) (T68 : Int32 → Int32 → Int32 → Int32 → Int32 → Int32 → Int32 → Int32 → CS → Prop) (T132 : Int32 → Int32 → Int32 → Int32 → Int32 → CS → Prop) (v0 : Int32) (v1 : Int32) (x1 : Int32) (x3 : Int32) (x4 : Int32) (x5 : Int32) (S : CS) : Prop :=
  T132 x1 (v1 + v0) x3 x4 (x5 + (1 : Int32)) S
set_option maxHeartbeats 4000000 in
set_option maxRecDepth 100000 in
theorem C_linkOf_a210 {p : Program} {l : Launch} {e : Env} {s : State} {m : MethodId} {args : Array Value} {below : List Frame} {meth : Method} {c : Code} {D : va_G} {dA : Nat → ClassId} {o : Nat → Nat} {A : Nat → Prop} {post : Int32 → CS → Prop} {T10 : Int32 → Int32 → Int32 → Int32 → Int32 → CS → Prop} {T22 : Int32 → Int32 → Int32 → Int32 → Int32 → Int32 → CS → Prop} {T68 : Int32 → Int32 → Int32 → Int32 → Int32 → Int32 → Int32 → Int32 → CS → Prop} {T132 : Int32 → Int32 → Int32 → Int32 → Int32 → CS → Prop} (C : cC RX0 p m c cX0_linkOf 9 s args meth (Option.some Jvm.ClassFile.FieldType.int) A) (hT10 : ∀ (x1 : Int32) (x2 : Int32) (x3 : Int32) (x4 : Int32) (x5 : Int32) (S : CS), T10 x1 x2 x3 x4 x5 S → ∀ (H : Heap) (locs : List Loc) (ls : Array Slot), lv_has ls 9 [(0, .ref (o 0)), (1, .int x1), (2, .int x2), (3, .int x3), (4, .int x4), (5, .int x5)] → cw D dA o A s S H locs → W p l e (rC_linkOf) s m args below meth c H locs 0 0 (cQi below args s D dA o A (rC_linkOf) post) (F0 m 10 ls [])) (hT22 : ∀ (x1 : Int32) (x2 : Int32) (x3 : Int32) (x4 : Int32) (x5 : Int32) (x6 : Int32) (S : CS), T22 x1 x2 x3 x4 x5 x6 S → ∀ (H : Heap) (locs : List Loc) (ls : Array Slot), lv_has ls 9 [(0, .ref (o 0)), (1, .int x1), (2, .int x2), (3, .int x3), (4, .int x4), (5, .int x5), (6, .int x6)] → cw D dA o A s S H locs → W p l e (rC_linkOf) s m args below meth c H locs 0 0 (cQi below args s D dA o A (rC_linkOf) post) (F0 m 22 ls [])) (hT68 : ∀ (x1 : Int32) (x2 : Int32) (x3 : Int32) (x4 : Int32) (x5 : Int32) (x6 : Int32) (x7 : Int32) (x8 : Int32) (S : CS), T68 x1 x2 x3 x4 x5 x6 x7 x8 S → ∀ (H : Heap) (locs : List Loc) (ls : Array Slot), lv_has ls 9 [(0, .ref (o 0)), (1, .int x1), (2, .int x2), (3, .int x3), (4, .int x4), (5, .int x5), (6, .int x6), (7, .int x7), (8, .int x8)] → cw D dA o A s S H locs → W p l e (rC_linkOf) s m args below meth c H locs 0 0 (cQi below args s D dA o A (rC_linkOf) post) (F0 m 68 ls [])) (hT132 : ∀ (x1 : Int32) (x2 : Int32) (x3 : Int32) (x4 : Int32) (x5 : Int32) (S : CS), T132 x1 x2 x3 x4 x5 S → ∀ (H : Heap) (locs : List Loc) (ls : Array Slot), lv_has ls 9 [(0, .ref (o 0)), (1, .int x1), (2, .int x2), (3, .int x3), (4, .int x4), (5, .int x5)] → cw D dA o A s S H locs → W p l e (rC_linkOf) s m args below meth c H locs 0 0 (cQi below args s D dA o A (rC_linkOf) post) (F0 m 132 ls [])) {v0 : Int32} {v1 : Int32} {x1 : Int32} {x3 : Int32} {x4 : Int32} {x5 : Int32} {S : CS} (h : C_linkOf_w210 post T10 T22 T68 T132 v0 v1 x1 x3 x4 x5 S) {H : Heap} {locs : List Loc} {ls : Array Slot} (hl : lv_has ls 9 [(0, .ref (o 0)), (1, .int x1), (3, .int x3), (4, .int x4), (5, .int x5)]) (w : cw D dA o A s S H locs) : W p l e (rC_linkOf) s m args below meth c H locs 0 0 (cQi below args s D dA o A (rC_linkOf) post) (F0 m 210 ls [.int v0, .int v1]) := by
  unfold C_linkOf_w210 at h
  obtain ⟨⟨hx, hb, hml, hown, hts⟩, hr, hlk, hA⟩ := id C
  refine lv_iadd hx hb dX0_linkOf_210 ?_
  refine lv_istore_n (lv' := [(2, .int _), (0, .ref _), (1, .int _), (3, .int _), (4, .int _), (5, .int _)]) hx hb dX0_linkOf_211 rfl hl (by decide) rfl (fun ls hl => ?_)
  refine lv_iinc (v := _ + (1 : Int32)) (lv' := [(5, .int _), (2, .int _), (0, .ref _), (1, .int _), (3, .int _), (4, .int _)]) hx hb dX0_linkOf_212 hl (k := 5) rfl rfl (by decide) rfl (fun ls hl => ?_)
  refine lv_goto (tgt := 132) hx hb dX0_linkOf_215 (by decide) ?_
  exact hT132 _ _ _ _ _ _ h _ _ _ (lv_sub hl [2, 3, 1, 4, 5, 0] rfl) w
def C_linkOf_w198 (post : Int32 → CS → Prop) (T10 : Int32 → Int32 → Int32 → Int32 → Int32 → CS → Prop) (T22 : Int32 → Int32 → Int32 → Int32 → Int32 → Int32 → CS → Prop) (T68 : Int32 → Int32 → Int32 → Int32 → Int32 → Int32 → Int32 → Int32 → CS → Prop) (T132 : Int32 → Int32 → Int32 → Int32 → Int32 → CS → Prop) (v0 : Int32) (v1 : Int32) (v3 : Int32) (x1 : Int32) (x3 : Int32) (x4 : Int32) (x5 : Int32) (S : CS) : Prop :=
  C_ofS2 v1 v0 S (fun (r1 : Int32) (S1 : CS) => ((¬ r1 = x1 → C_linkOf_w210 post T10 T22 T68 T132 (0 : Int32) v3 x1 x3 x4 x5 S1) ∧ (r1 = x1 → C_linkOf_w210 post T10 T22 T68 T132 (1 : Int32) v3 x1 x3 x4 x5 S1)))
set_option maxHeartbeats 4000000 in
set_option maxRecDepth 100000 in
theorem C_linkOf_a198 {p : Program} {l : Launch} {e : Env} {s : State} {m : MethodId} {args : Array Value} {below : List Frame} {meth : Method} {c : Code} {D : va_G} {dA : Nat → ClassId} {o : Nat → Nat} {A : Nat → Prop} {post : Int32 → CS → Prop} {T10 : Int32 → Int32 → Int32 → Int32 → Int32 → CS → Prop} {T22 : Int32 → Int32 → Int32 → Int32 → Int32 → Int32 → CS → Prop} {T68 : Int32 → Int32 → Int32 → Int32 → Int32 → Int32 → Int32 → Int32 → CS → Prop} {T132 : Int32 → Int32 → Int32 → Int32 → Int32 → CS → Prop} (C : cC RX0 p m c cX0_linkOf 9 s args meth (Option.some Jvm.ClassFile.FieldType.int) A) (hT10 : ∀ (x1 : Int32) (x2 : Int32) (x3 : Int32) (x4 : Int32) (x5 : Int32) (S : CS), T10 x1 x2 x3 x4 x5 S → ∀ (H : Heap) (locs : List Loc) (ls : Array Slot), lv_has ls 9 [(0, .ref (o 0)), (1, .int x1), (2, .int x2), (3, .int x3), (4, .int x4), (5, .int x5)] → cw D dA o A s S H locs → W p l e (rC_linkOf) s m args below meth c H locs 0 0 (cQi below args s D dA o A (rC_linkOf) post) (F0 m 10 ls [])) (hT22 : ∀ (x1 : Int32) (x2 : Int32) (x3 : Int32) (x4 : Int32) (x5 : Int32) (x6 : Int32) (S : CS), T22 x1 x2 x3 x4 x5 x6 S → ∀ (H : Heap) (locs : List Loc) (ls : Array Slot), lv_has ls 9 [(0, .ref (o 0)), (1, .int x1), (2, .int x2), (3, .int x3), (4, .int x4), (5, .int x5), (6, .int x6)] → cw D dA o A s S H locs → W p l e (rC_linkOf) s m args below meth c H locs 0 0 (cQi below args s D dA o A (rC_linkOf) post) (F0 m 22 ls [])) (hT68 : ∀ (x1 : Int32) (x2 : Int32) (x3 : Int32) (x4 : Int32) (x5 : Int32) (x6 : Int32) (x7 : Int32) (x8 : Int32) (S : CS), T68 x1 x2 x3 x4 x5 x6 x7 x8 S → ∀ (H : Heap) (locs : List Loc) (ls : Array Slot), lv_has ls 9 [(0, .ref (o 0)), (1, .int x1), (2, .int x2), (3, .int x3), (4, .int x4), (5, .int x5), (6, .int x6), (7, .int x7), (8, .int x8)] → cw D dA o A s S H locs → W p l e (rC_linkOf) s m args below meth c H locs 0 0 (cQi below args s D dA o A (rC_linkOf) post) (F0 m 68 ls [])) (hT132 : ∀ (x1 : Int32) (x2 : Int32) (x3 : Int32) (x4 : Int32) (x5 : Int32) (S : CS), T132 x1 x2 x3 x4 x5 S → ∀ (H : Heap) (locs : List Loc) (ls : Array Slot), lv_has ls 9 [(0, .ref (o 0)), (1, .int x1), (2, .int x2), (3, .int x3), (4, .int x4), (5, .int x5)] → cw D dA o A s S H locs → W p l e (rC_linkOf) s m args below meth c H locs 0 0 (cQi below args s D dA o A (rC_linkOf) post) (F0 m 132 ls [])) {v0 : Int32} {v1 : Int32} {v3 : Int32} {x1 : Int32} {x3 : Int32} {x4 : Int32} {x5 : Int32} {S : CS} (h : C_linkOf_w198 post T10 T22 T68 T132 v0 v1 v3 x1 x3 x4 x5 S) {H : Heap} {locs : List Loc} {ls : Array Slot} (hl : lv_has ls 9 [(0, .ref (o 0)), (1, .int x1), (3, .int x3), (4, .int x4), (5, .int x5)]) (w : cw D dA o A s S H locs) : W p l e (rC_linkOf) s m args below meth c H locs 0 0 (cQi below args s D dA o A (rC_linkOf) post) (F0 m 198 ls [.int v0, .int v1, .ref (o 2), .int v3]) := by
  unfold C_linkOf_w198 at h
  obtain ⟨⟨hx, hb, hml, hown, hts⟩, hr, hlk, hA⟩ := id C
  refine cr_callUI (owner := RX1) (rest := [.int _]) (b := fun o => o 2) C w h (recv2 w) (va_cwU 2 hts (lw_U q329 q330 q332 q333 q83 q334) rfl rfl rfl rfl (by decide +kernel) ⟨Nat.le_of_ble_eq_true rfl, Nat.le_of_ble_eq_true rfl⟩) rfl hl.1 rfl (Nat.le_of_ble_eq_true rfl) ⟨Nat.le_of_ble_eq_true rfl, Nat.le_of_ble_eq_true rfl⟩ dX0_linkOf_198 (fun r1 S1 H locs h w => ?_)
  refine lv_iload_n hx hb dX0_linkOf_201 rfl (lv_at hl 1 rfl) ?_
  obtain ⟨h1, h2⟩ := h
  refine lv_icmp_ne (tgt := 209) hx hb dX0_linkOf_202 (by decide) (fun c1 => ?_) (fun c1 => ?_)
  · have h := h1 c1
    refine lv_iconst (v := 0) hx hb dX0_linkOf_209 (by decide) ?_
    exact C_linkOf_a210 C hT10 hT22 hT68 hT132 h (lv_sub hl [0, 1, 2, 3, 4] rfl) w
  · have h := h2 c1
    refine lv_iconst (v := 1) hx hb dX0_linkOf_205 (by decide) ?_
    refine lv_goto (tgt := 210) hx hb dX0_linkOf_206 (by decide) ?_
    exact C_linkOf_a210 C hT10 hT22 hT68 hT132 h (lv_sub hl [0, 1, 2, 3, 4] rfl) w
def C_linkOf_w132 (post : Int32 → CS → Prop) (T10 : Int32 → Int32 → Int32 → Int32 → Int32 → CS → Prop) (T22 : Int32 → Int32 → Int32 → Int32 → Int32 → Int32 → CS → Prop) (T68 : Int32 → Int32 → Int32 → Int32 → Int32 → Int32 → Int32 → Int32 → CS → Prop) (T132 : Int32 → Int32 → Int32 → Int32 → Int32 → CS → Prop) (x1 : Int32) (x2 : Int32) (x3 : Int32) (x4 : Int32) (x5 : Int32) (S : CS) : Prop :=
  (((kF S 44) ≤ x5 → post ((x2 - (x3 / (2 : Int32))) + x4) S) ∧ (¬ (kF S 44) ≤ x5 → C_firstS4 x5 S (fun (r1 : Int32) (S1 : CS) => ((¬ ((r1 - r1 / (12 : Int32) * (12 : Int32)) - (r1 - r1 / (12 : Int32) * (12 : Int32)) / (2 : Int32) * (2 : Int32)) = 0 → (vp_in ((r1 - r1 / (12 : Int32) * (12 : Int32)) / (2 : Int32)) 6 ∧ C_linkOf_w198 post T10 T22 T68 T132 (highF (((r1 - r1 / (12 : Int32) * (12 : Int32)) / (2 : Int32))).toNatClampNeg) (r1 / (12 : Int32)) x2 x1 x3 x4 x5 S1)) ∧ (((r1 - r1 / (12 : Int32) * (12 : Int32)) - (r1 - r1 / (12 : Int32) * (12 : Int32)) / (2 : Int32) * (2 : Int32)) = 0 → (vp_in ((r1 - r1 / (12 : Int32) * (12 : Int32)) / (2 : Int32)) 6 ∧ C_linkOf_w198 post T10 T22 T68 T132 (lowF (((r1 - r1 / (12 : Int32) * (12 : Int32)) / (2 : Int32))).toNatClampNeg) (r1 / (12 : Int32)) x2 x1 x3 x4 x5 S1))))))
set_option maxHeartbeats 4000000 in
set_option maxRecDepth 100000 in
theorem C_linkOf_a132 {p : Program} {l : Launch} {e : Env} {s : State} {m : MethodId} {args : Array Value} {below : List Frame} {meth : Method} {c : Code} {D : va_G} {dA : Nat → ClassId} {o : Nat → Nat} {A : Nat → Prop} {post : Int32 → CS → Prop} {T10 : Int32 → Int32 → Int32 → Int32 → Int32 → CS → Prop} {T22 : Int32 → Int32 → Int32 → Int32 → Int32 → Int32 → CS → Prop} {T68 : Int32 → Int32 → Int32 → Int32 → Int32 → Int32 → Int32 → Int32 → CS → Prop} {T132 : Int32 → Int32 → Int32 → Int32 → Int32 → CS → Prop} (C : cC RX0 p m c cX0_linkOf 9 s args meth (Option.some Jvm.ClassFile.FieldType.int) A) (hT10 : ∀ (x1 : Int32) (x2 : Int32) (x3 : Int32) (x4 : Int32) (x5 : Int32) (S : CS), T10 x1 x2 x3 x4 x5 S → ∀ (H : Heap) (locs : List Loc) (ls : Array Slot), lv_has ls 9 [(0, .ref (o 0)), (1, .int x1), (2, .int x2), (3, .int x3), (4, .int x4), (5, .int x5)] → cw D dA o A s S H locs → W p l e (rC_linkOf) s m args below meth c H locs 0 0 (cQi below args s D dA o A (rC_linkOf) post) (F0 m 10 ls [])) (hT22 : ∀ (x1 : Int32) (x2 : Int32) (x3 : Int32) (x4 : Int32) (x5 : Int32) (x6 : Int32) (S : CS), T22 x1 x2 x3 x4 x5 x6 S → ∀ (H : Heap) (locs : List Loc) (ls : Array Slot), lv_has ls 9 [(0, .ref (o 0)), (1, .int x1), (2, .int x2), (3, .int x3), (4, .int x4), (5, .int x5), (6, .int x6)] → cw D dA o A s S H locs → W p l e (rC_linkOf) s m args below meth c H locs 0 0 (cQi below args s D dA o A (rC_linkOf) post) (F0 m 22 ls [])) (hT68 : ∀ (x1 : Int32) (x2 : Int32) (x3 : Int32) (x4 : Int32) (x5 : Int32) (x6 : Int32) (x7 : Int32) (x8 : Int32) (S : CS), T68 x1 x2 x3 x4 x5 x6 x7 x8 S → ∀ (H : Heap) (locs : List Loc) (ls : Array Slot), lv_has ls 9 [(0, .ref (o 0)), (1, .int x1), (2, .int x2), (3, .int x3), (4, .int x4), (5, .int x5), (6, .int x6), (7, .int x7), (8, .int x8)] → cw D dA o A s S H locs → W p l e (rC_linkOf) s m args below meth c H locs 0 0 (cQi below args s D dA o A (rC_linkOf) post) (F0 m 68 ls [])) (hT132 : ∀ (x1 : Int32) (x2 : Int32) (x3 : Int32) (x4 : Int32) (x5 : Int32) (S : CS), T132 x1 x2 x3 x4 x5 S → ∀ (H : Heap) (locs : List Loc) (ls : Array Slot), lv_has ls 9 [(0, .ref (o 0)), (1, .int x1), (2, .int x2), (3, .int x3), (4, .int x4), (5, .int x5)] → cw D dA o A s S H locs → W p l e (rC_linkOf) s m args below meth c H locs 0 0 (cQi below args s D dA o A (rC_linkOf) post) (F0 m 132 ls [])) {x1 : Int32} {x2 : Int32} {x3 : Int32} {x4 : Int32} {x5 : Int32} {S : CS} (h : C_linkOf_w132 post T10 T22 T68 T132 x1 x2 x3 x4 x5 S) {H : Heap} {locs : List Loc} {ls : Array Slot} (hl : lv_has ls 9 [(0, .ref (o 0)), (1, .int x1), (2, .int x2), (3, .int x3), (4, .int x4), (5, .int x5)]) (w : cw D dA o A s S H locs) : W p l e (rC_linkOf) s m args below meth c H locs 0 0 (cQi below args s D dA o A (rC_linkOf) post) (F0 m 132 ls []) := by
  unfold C_linkOf_w132 at h
  obtain ⟨⟨hx, hb, hml, hown, hts⟩, hr, hlk, hA⟩ := id C
  obtain ⟨tL, tH, hZL, hTL, hZH, hTH⟩ := w.2.2.2.2.2
  refine lv_iload hx hb dX0_linkOf_132 (lv_at hl 5 rfl) ?_
  refine lv_aload_n hx hb dX0_linkOf_134 rfl (lv_at hl 0 rfl) ?_
  refine cr_get C w 0 rfl rfl in_X0 4 (by decide) q168 rfl rfl dX0_linkOf_135 ?_
  refine cr_getM C w q116 q117 dX0_linkOf_138 ?_
  obtain ⟨h1, h2⟩ := h
  refine lv_icmp_ge (tgt := 218) hx hb dX0_linkOf_141 (by decide) (fun c1 => ?_) (fun c1 => ?_)
  · have h := h1 c1
    refine lv_iload_n hx hb dX0_linkOf_218 rfl (lv_at hl 2 rfl) ?_
    refine lv_iload_n hx hb dX0_linkOf_219 rfl (lv_at hl 3 rfl) ?_
    refine lv_iconst (v := 2) hx hb dX0_linkOf_220 (by decide) ?_
    refine lv_idiv hx hb dX0_linkOf_221 (by decide) ?_
    refine lv_isub hx hb dX0_linkOf_222 ?_
    refine lv_iload hx hb dX0_linkOf_223 (lv_at hl 4 rfl) ?_
    refine lv_iadd hx hb dX0_linkOf_225 ?_
    exact cr_iret C w h (Nat.le_of_ble_eq_true rfl) (Nat.le_of_ble_eq_true rfl) dX0_linkOf_226
  · have h := h2 c1
    refine lv_aload_n hx hb dX0_linkOf_144 rfl (lv_at hl 0 rfl) ?_
    refine cr_get C w 0 rfl rfl in_X0 4 (by decide) q168 rfl rfl dX0_linkOf_145 ?_
    refine lv_iload hx hb dX0_linkOf_148 (lv_at hl 5 rfl) ?_
    refine cr_callUI (owner := RX1) (rest := []) (b := fun o => o 4) C w h (recv4 w) (va_cwU 1 hts (lw_U q367 q368 q369 q353 q83 q354) rfl rfl rfl rfl (by decide +kernel) ⟨Nat.le_of_ble_eq_true rfl, Nat.le_of_ble_eq_true rfl⟩) rfl hl.1 rfl (Nat.le_of_ble_eq_true rfl) ⟨Nat.le_of_ble_eq_true rfl, Nat.le_of_ble_eq_true rfl⟩ dX0_linkOf_150 (fun r1 S1 H locs h w => ?_)
    refine lv_istore (lv' := [(6, .int _), (0, .ref _), (1, .int _), (2, .int _), (3, .int _), (4, .int _), (5, .int _)]) hx hb dX0_linkOf_153 hl (by decide) rfl (fun ls hl => ?_)
    refine lv_iload hx hb dX0_linkOf_155 (lv_at hl 0 rfl) ?_
    refine lv_bipush (v := 12) hx hb dX0_linkOf_157 (by decide) ?_
    refine lv_irem hx hb dX0_linkOf_159 (by decide) ?_
    refine lv_istore (lv' := [(7, .int _), (6, .int _), (0, .ref _), (1, .int _), (2, .int _), (3, .int _), (4, .int _), (5, .int _)]) hx hb dX0_linkOf_160 hl (by decide) rfl (fun ls hl => ?_)
    refine lv_iload_n hx hb dX0_linkOf_162 rfl (lv_at hl 4 rfl) ?_
    refine lv_aload_n hx hb dX0_linkOf_163 rfl (lv_at hl 2 rfl) ?_
    refine cr_get C w 0 rfl rfl in_X0 2 (by decide) q166 rfl rfl dX0_linkOf_164 ?_
    refine lv_iload hx hb dX0_linkOf_167 (lv_at hl 1 rfl) ?_
    refine lv_bipush (v := 12) hx hb dX0_linkOf_169 (by decide) ?_
    refine lv_idiv hx hb dX0_linkOf_171 (by decide) ?_
    refine lv_iload hx hb dX0_linkOf_172 (lv_at hl 0 rfl) ?_
    refine lv_iconst (v := 2) hx hb dX0_linkOf_174 (by decide) ?_
    refine lv_irem hx hb dX0_linkOf_175 (by decide) ?_
    obtain ⟨h1, h2⟩ := h
    refine lv_if_ne (tgt := 190) hx hb dX0_linkOf_176 (by decide) (fun c1 => ?_) (fun c1 => ?_)
    · have h := h1 c1
      refine cr_gets (f := fun j => .int (highF j)) C w hZH q319 dX0_linkOf_190 ?_ -- tH
      refine lv_iload hx hb dX0_linkOf_193 (lv_at hl 0 rfl) ?_
      refine lv_iconst (v := 2) hx hb dX0_linkOf_195 (by decide) ?_
      refine lv_idiv hx hb dX0_linkOf_196 (by decide) ?_
      obtain ⟨hi, h⟩ := h
      refine cr_sald C w hTH hi dX0_linkOf_197 ?_
      exact C_linkOf_a198 C hT10 hT22 hT68 hT132 h (lv_sub hl [2, 3, 5, 6, 7] rfl) w
    · have h := h2 c1
      refine cr_gets (f := fun j => .int (lowF j)) C w hZL q318 dX0_linkOf_179 ?_ -- tL
      refine lv_iload hx hb dX0_linkOf_182 (lv_at hl 0 rfl) ?_
      refine lv_iconst (v := 2) hx hb dX0_linkOf_184 (by decide) ?_
      refine lv_idiv hx hb dX0_linkOf_185 (by decide) ?_
      obtain ⟨hi, h⟩ := h
      refine cr_sald C w hTL hi dX0_linkOf_186 ?_
      refine lv_goto (tgt := 198) hx hb dX0_linkOf_187 (by decide) ?_
      exact C_linkOf_a198 C hT10 hT22 hT68 hT132 h (lv_sub hl [2, 3, 5, 6, 7] rfl) w
def C_linkOf_w117 (post : Int32 → CS → Prop) (T10 : Int32 → Int32 → Int32 → Int32 → Int32 → CS → Prop) (T22 : Int32 → Int32 → Int32 → Int32 → Int32 → Int32 → CS → Prop) (T68 : Int32 → Int32 → Int32 → Int32 → Int32 → Int32 → Int32 → Int32 → CS → Prop) (T132 : Int32 → Int32 → Int32 → Int32 → Int32 → CS → Prop) (x1 : Int32) (x2 : Int32) (x3 : Int32) (x4 : Int32) (x5 : Int32) (x6 : Int32) (S : CS) : Prop :=
  T22 x1 x2 x3 x4 x5 (x6 + (1 : Int32)) S
set_option maxHeartbeats 4000000 in
set_option maxRecDepth 100000 in
theorem C_linkOf_a117 {p : Program} {l : Launch} {e : Env} {s : State} {m : MethodId} {args : Array Value} {below : List Frame} {meth : Method} {c : Code} {D : va_G} {dA : Nat → ClassId} {o : Nat → Nat} {A : Nat → Prop} {post : Int32 → CS → Prop} {T10 : Int32 → Int32 → Int32 → Int32 → Int32 → CS → Prop} {T22 : Int32 → Int32 → Int32 → Int32 → Int32 → Int32 → CS → Prop} {T68 : Int32 → Int32 → Int32 → Int32 → Int32 → Int32 → Int32 → Int32 → CS → Prop} {T132 : Int32 → Int32 → Int32 → Int32 → Int32 → CS → Prop} (C : cC RX0 p m c cX0_linkOf 9 s args meth (Option.some Jvm.ClassFile.FieldType.int) A) (hT10 : ∀ (x1 : Int32) (x2 : Int32) (x3 : Int32) (x4 : Int32) (x5 : Int32) (S : CS), T10 x1 x2 x3 x4 x5 S → ∀ (H : Heap) (locs : List Loc) (ls : Array Slot), lv_has ls 9 [(0, .ref (o 0)), (1, .int x1), (2, .int x2), (3, .int x3), (4, .int x4), (5, .int x5)] → cw D dA o A s S H locs → W p l e (rC_linkOf) s m args below meth c H locs 0 0 (cQi below args s D dA o A (rC_linkOf) post) (F0 m 10 ls [])) (hT22 : ∀ (x1 : Int32) (x2 : Int32) (x3 : Int32) (x4 : Int32) (x5 : Int32) (x6 : Int32) (S : CS), T22 x1 x2 x3 x4 x5 x6 S → ∀ (H : Heap) (locs : List Loc) (ls : Array Slot), lv_has ls 9 [(0, .ref (o 0)), (1, .int x1), (2, .int x2), (3, .int x3), (4, .int x4), (5, .int x5), (6, .int x6)] → cw D dA o A s S H locs → W p l e (rC_linkOf) s m args below meth c H locs 0 0 (cQi below args s D dA o A (rC_linkOf) post) (F0 m 22 ls [])) (hT68 : ∀ (x1 : Int32) (x2 : Int32) (x3 : Int32) (x4 : Int32) (x5 : Int32) (x6 : Int32) (x7 : Int32) (x8 : Int32) (S : CS), T68 x1 x2 x3 x4 x5 x6 x7 x8 S → ∀ (H : Heap) (locs : List Loc) (ls : Array Slot), lv_has ls 9 [(0, .ref (o 0)), (1, .int x1), (2, .int x2), (3, .int x3), (4, .int x4), (5, .int x5), (6, .int x6), (7, .int x7), (8, .int x8)] → cw D dA o A s S H locs → W p l e (rC_linkOf) s m args below meth c H locs 0 0 (cQi below args s D dA o A (rC_linkOf) post) (F0 m 68 ls [])) (hT132 : ∀ (x1 : Int32) (x2 : Int32) (x3 : Int32) (x4 : Int32) (x5 : Int32) (S : CS), T132 x1 x2 x3 x4 x5 S → ∀ (H : Heap) (locs : List Loc) (ls : Array Slot), lv_has ls 9 [(0, .ref (o 0)), (1, .int x1), (2, .int x2), (3, .int x3), (4, .int x4), (5, .int x5)] → cw D dA o A s S H locs → W p l e (rC_linkOf) s m args below meth c H locs 0 0 (cQi below args s D dA o A (rC_linkOf) post) (F0 m 132 ls [])) {x1 : Int32} {x2 : Int32} {x3 : Int32} {x4 : Int32} {x5 : Int32} {x6 : Int32} {S : CS} (h : C_linkOf_w117 post T10 T22 T68 T132 x1 x2 x3 x4 x5 x6 S) {H : Heap} {locs : List Loc} {ls : Array Slot} (hl : lv_has ls 9 [(0, .ref (o 0)), (1, .int x1), (2, .int x2), (3, .int x3), (4, .int x4), (5, .int x5), (6, .int x6)]) (w : cw D dA o A s S H locs) : W p l e (rC_linkOf) s m args below meth c H locs 0 0 (cQi below args s D dA o A (rC_linkOf) post) (F0 m 117 ls []) := by
  unfold C_linkOf_w117 at h
  obtain ⟨⟨hx, hb, hml, hown, hts⟩, hr, hlk, hA⟩ := id C
  refine lv_iinc (v := _ + (1 : Int32)) (lv' := [(6, .int _), (0, .ref _), (1, .int _), (2, .int _), (3, .int _), (4, .int _), (5, .int _)]) hx hb dX0_linkOf_117 hl (k := 6) rfl rfl (by decide) rfl (fun ls hl => ?_)
  refine lv_goto (tgt := 22) hx hb dX0_linkOf_120 (by decide) ?_
  exact hT22 _ _ _ _ _ _ _ h _ _ _ (lv_sub hl [1, 2, 3, 4, 5, 6, 0] rfl) w
def C_linkOf_w109 (post : Int32 → CS → Prop) (T10 : Int32 → Int32 → Int32 → Int32 → Int32 → CS → Prop) (T22 : Int32 → Int32 → Int32 → Int32 → Int32 → Int32 → CS → Prop) (T68 : Int32 → Int32 → Int32 → Int32 → Int32 → Int32 → Int32 → Int32 → CS → Prop) (T132 : Int32 → Int32 → Int32 → Int32 → Int32 → CS → Prop) (v0 : Int32) (v1 : Int32) (x1 : Int32) (x2 : Int32) (x4 : Int32) (x5 : Int32) (x6 : Int32) (x7 : Int32) (x8 : Int32) (S : CS) : Prop :=
  T68 x1 x2 (v1 + v0) x4 x5 x6 x7 (x8 + (1 : Int32)) S
set_option maxHeartbeats 4000000 in
set_option maxRecDepth 100000 in
theorem C_linkOf_a109 {p : Program} {l : Launch} {e : Env} {s : State} {m : MethodId} {args : Array Value} {below : List Frame} {meth : Method} {c : Code} {D : va_G} {dA : Nat → ClassId} {o : Nat → Nat} {A : Nat → Prop} {post : Int32 → CS → Prop} {T10 : Int32 → Int32 → Int32 → Int32 → Int32 → CS → Prop} {T22 : Int32 → Int32 → Int32 → Int32 → Int32 → Int32 → CS → Prop} {T68 : Int32 → Int32 → Int32 → Int32 → Int32 → Int32 → Int32 → Int32 → CS → Prop} {T132 : Int32 → Int32 → Int32 → Int32 → Int32 → CS → Prop} (C : cC RX0 p m c cX0_linkOf 9 s args meth (Option.some Jvm.ClassFile.FieldType.int) A) (hT10 : ∀ (x1 : Int32) (x2 : Int32) (x3 : Int32) (x4 : Int32) (x5 : Int32) (S : CS), T10 x1 x2 x3 x4 x5 S → ∀ (H : Heap) (locs : List Loc) (ls : Array Slot), lv_has ls 9 [(0, .ref (o 0)), (1, .int x1), (2, .int x2), (3, .int x3), (4, .int x4), (5, .int x5)] → cw D dA o A s S H locs → W p l e (rC_linkOf) s m args below meth c H locs 0 0 (cQi below args s D dA o A (rC_linkOf) post) (F0 m 10 ls [])) (hT22 : ∀ (x1 : Int32) (x2 : Int32) (x3 : Int32) (x4 : Int32) (x5 : Int32) (x6 : Int32) (S : CS), T22 x1 x2 x3 x4 x5 x6 S → ∀ (H : Heap) (locs : List Loc) (ls : Array Slot), lv_has ls 9 [(0, .ref (o 0)), (1, .int x1), (2, .int x2), (3, .int x3), (4, .int x4), (5, .int x5), (6, .int x6)] → cw D dA o A s S H locs → W p l e (rC_linkOf) s m args below meth c H locs 0 0 (cQi below args s D dA o A (rC_linkOf) post) (F0 m 22 ls [])) (hT68 : ∀ (x1 : Int32) (x2 : Int32) (x3 : Int32) (x4 : Int32) (x5 : Int32) (x6 : Int32) (x7 : Int32) (x8 : Int32) (S : CS), T68 x1 x2 x3 x4 x5 x6 x7 x8 S → ∀ (H : Heap) (locs : List Loc) (ls : Array Slot), lv_has ls 9 [(0, .ref (o 0)), (1, .int x1), (2, .int x2), (3, .int x3), (4, .int x4), (5, .int x5), (6, .int x6), (7, .int x7), (8, .int x8)] → cw D dA o A s S H locs → W p l e (rC_linkOf) s m args below meth c H locs 0 0 (cQi below args s D dA o A (rC_linkOf) post) (F0 m 68 ls [])) (hT132 : ∀ (x1 : Int32) (x2 : Int32) (x3 : Int32) (x4 : Int32) (x5 : Int32) (S : CS), T132 x1 x2 x3 x4 x5 S → ∀ (H : Heap) (locs : List Loc) (ls : Array Slot), lv_has ls 9 [(0, .ref (o 0)), (1, .int x1), (2, .int x2), (3, .int x3), (4, .int x4), (5, .int x5)] → cw D dA o A s S H locs → W p l e (rC_linkOf) s m args below meth c H locs 0 0 (cQi below args s D dA o A (rC_linkOf) post) (F0 m 132 ls [])) {v0 : Int32} {v1 : Int32} {x1 : Int32} {x2 : Int32} {x4 : Int32} {x5 : Int32} {x6 : Int32} {x7 : Int32} {x8 : Int32} {S : CS} (h : C_linkOf_w109 post T10 T22 T68 T132 v0 v1 x1 x2 x4 x5 x6 x7 x8 S) {H : Heap} {locs : List Loc} {ls : Array Slot} (hl : lv_has ls 9 [(0, .ref (o 0)), (1, .int x1), (2, .int x2), (4, .int x4), (5, .int x5), (6, .int x6), (7, .int x7), (8, .int x8)]) (w : cw D dA o A s S H locs) : W p l e (rC_linkOf) s m args below meth c H locs 0 0 (cQi below args s D dA o A (rC_linkOf) post) (F0 m 109 ls [.int v0, .int v1]) := by
  unfold C_linkOf_w109 at h
  obtain ⟨⟨hx, hb, hml, hown, hts⟩, hr, hlk, hA⟩ := id C
  refine lv_iadd hx hb dX0_linkOf_109 ?_
  refine lv_istore_n (lv' := [(3, .int _), (0, .ref _), (1, .int _), (2, .int _), (4, .int _), (5, .int _), (6, .int _), (7, .int _), (8, .int _)]) hx hb dX0_linkOf_110 rfl hl (by decide) rfl (fun ls hl => ?_)
  refine lv_iinc (v := _ + (1 : Int32)) (lv' := [(8, .int _), (3, .int _), (0, .ref _), (1, .int _), (2, .int _), (4, .int _), (5, .int _), (6, .int _), (7, .int _)]) hx hb dX0_linkOf_111 hl (k := 8) rfl rfl (by decide) rfl (fun ls hl => ?_)
  refine lv_goto (tgt := 68) hx hb dX0_linkOf_114 (by decide) ?_
  exact hT68 _ _ _ _ _ _ _ _ _ h _ _ _ (lv_sub hl [2, 3, 4, 1, 5, 6, 7, 8, 0] rfl) w
def C_linkOf_w68 (post : Int32 → CS → Prop) (T10 : Int32 → Int32 → Int32 → Int32 → Int32 → CS → Prop) (T22 : Int32 → Int32 → Int32 → Int32 → Int32 → Int32 → CS → Prop) (T68 : Int32 → Int32 → Int32 → Int32 → Int32 → Int32 → Int32 → Int32 → CS → Prop) (T132 : Int32 → Int32 → Int32 → Int32 → Int32 → CS → Prop) (x1 : Int32) (x2 : Int32) (x3 : Int32) (x4 : Int32) (x5 : Int32) (x6 : Int32) (x7 : Int32) (x8 : Int32) (S : CS) : Prop :=
  (((4 : Int32) ≤ x8 → C_linkOf_w117 post T10 T22 T68 T132 x1 x2 x3 x4 x5 x6 S) ∧ (¬ (4 : Int32) ≤ x8 → ((x7 = 0 → C_linkOf_w117 post T10 T22 T68 T132 x1 x2 x3 x4 x5 x6 S) ∧ (¬ x7 = 0 → ((¬ x8 = x6 → (vp_in x5 3 ∧ (vp_in x8 4 ∧ ((∀ g2 : Nat, (kGl S ((x5).toNatClampNeg) (x8).toNatClampNeg) = some g2 → C_linkOf_w109 post T10 T22 T68 T132 (1 : Int32) x3 x1 x2 x4 x5 x6 x7 x8 S) ∧ ((kGl S ((x5).toNatClampNeg) (x8).toNatClampNeg) = none → C_linkOf_w109 post T10 T22 T68 T132 (2 : Int32) x3 x1 x2 x4 x5 x6 x7 x8 S))))) ∧ (x8 = x6 → C_linkOf_w109 post T10 T22 T68 T132 (0 : Int32) x3 x1 x2 x4 x5 x6 x7 x8 S))))))
set_option maxHeartbeats 4000000 in
set_option maxRecDepth 100000 in
theorem C_linkOf_a68 {p : Program} {l : Launch} {e : Env} {s : State} {m : MethodId} {args : Array Value} {below : List Frame} {meth : Method} {c : Code} {D : va_G} {dA : Nat → ClassId} {o : Nat → Nat} {A : Nat → Prop} {post : Int32 → CS → Prop} {T10 : Int32 → Int32 → Int32 → Int32 → Int32 → CS → Prop} {T22 : Int32 → Int32 → Int32 → Int32 → Int32 → Int32 → CS → Prop} {T68 : Int32 → Int32 → Int32 → Int32 → Int32 → Int32 → Int32 → Int32 → CS → Prop} {T132 : Int32 → Int32 → Int32 → Int32 → Int32 → CS → Prop} (C : cC RX0 p m c cX0_linkOf 9 s args meth (Option.some Jvm.ClassFile.FieldType.int) A) (hT10 : ∀ (x1 : Int32) (x2 : Int32) (x3 : Int32) (x4 : Int32) (x5 : Int32) (S : CS), T10 x1 x2 x3 x4 x5 S → ∀ (H : Heap) (locs : List Loc) (ls : Array Slot), lv_has ls 9 [(0, .ref (o 0)), (1, .int x1), (2, .int x2), (3, .int x3), (4, .int x4), (5, .int x5)] → cw D dA o A s S H locs → W p l e (rC_linkOf) s m args below meth c H locs 0 0 (cQi below args s D dA o A (rC_linkOf) post) (F0 m 10 ls [])) (hT22 : ∀ (x1 : Int32) (x2 : Int32) (x3 : Int32) (x4 : Int32) (x5 : Int32) (x6 : Int32) (S : CS), T22 x1 x2 x3 x4 x5 x6 S → ∀ (H : Heap) (locs : List Loc) (ls : Array Slot), lv_has ls 9 [(0, .ref (o 0)), (1, .int x1), (2, .int x2), (3, .int x3), (4, .int x4), (5, .int x5), (6, .int x6)] → cw D dA o A s S H locs → W p l e (rC_linkOf) s m args below meth c H locs 0 0 (cQi below args s D dA o A (rC_linkOf) post) (F0 m 22 ls [])) (hT68 : ∀ (x1 : Int32) (x2 : Int32) (x3 : Int32) (x4 : Int32) (x5 : Int32) (x6 : Int32) (x7 : Int32) (x8 : Int32) (S : CS), T68 x1 x2 x3 x4 x5 x6 x7 x8 S → ∀ (H : Heap) (locs : List Loc) (ls : Array Slot), lv_has ls 9 [(0, .ref (o 0)), (1, .int x1), (2, .int x2), (3, .int x3), (4, .int x4), (5, .int x5), (6, .int x6), (7, .int x7), (8, .int x8)] → cw D dA o A s S H locs → W p l e (rC_linkOf) s m args below meth c H locs 0 0 (cQi below args s D dA o A (rC_linkOf) post) (F0 m 68 ls [])) (hT132 : ∀ (x1 : Int32) (x2 : Int32) (x3 : Int32) (x4 : Int32) (x5 : Int32) (S : CS), T132 x1 x2 x3 x4 x5 S → ∀ (H : Heap) (locs : List Loc) (ls : Array Slot), lv_has ls 9 [(0, .ref (o 0)), (1, .int x1), (2, .int x2), (3, .int x3), (4, .int x4), (5, .int x5)] → cw D dA o A s S H locs → W p l e (rC_linkOf) s m args below meth c H locs 0 0 (cQi below args s D dA o A (rC_linkOf) post) (F0 m 132 ls [])) {x1 : Int32} {x2 : Int32} {x3 : Int32} {x4 : Int32} {x5 : Int32} {x6 : Int32} {x7 : Int32} {x8 : Int32} {S : CS} (h : C_linkOf_w68 post T10 T22 T68 T132 x1 x2 x3 x4 x5 x6 x7 x8 S) {H : Heap} {locs : List Loc} {ls : Array Slot} (hl : lv_has ls 9 [(0, .ref (o 0)), (1, .int x1), (2, .int x2), (3, .int x3), (4, .int x4), (5, .int x5), (6, .int x6), (7, .int x7), (8, .int x8)]) (w : cw D dA o A s S H locs) : W p l e (rC_linkOf) s m args below meth c H locs 0 0 (cQi below args s D dA o A (rC_linkOf) post) (F0 m 68 ls []) := by
  unfold C_linkOf_w68 at h
  obtain ⟨⟨hx, hb, hml, hown, hts⟩, hr, hlk, hA⟩ := id C
  refine lv_iload hx hb dX0_linkOf_68 (lv_at hl 8 rfl) ?_
  refine lv_iconst (v := 4) hx hb dX0_linkOf_70 (by decide) ?_
  obtain ⟨h1, h2⟩ := h
  refine lv_icmp_ge (tgt := 117) hx hb dX0_linkOf_71 (by decide) (fun c1 => ?_) (fun c1 => ?_)
  · have h := h1 c1
    exact C_linkOf_a117 C hT10 hT22 hT68 hT132 h (lv_sub hl [0, 1, 2, 3, 4, 5, 6] rfl) w
  · have h := h2 c1
    refine lv_iload hx hb dX0_linkOf_74 (lv_at hl 7 rfl) ?_
    obtain ⟨h1, h2⟩ := h
    refine lv_if_eq (tgt := 117) hx hb dX0_linkOf_76 (by decide) (fun c1 => ?_) (fun c1 => ?_)
    · have h := h1 c1
      exact C_linkOf_a117 C hT10 hT22 hT68 hT132 h (lv_sub hl [0, 1, 2, 3, 4, 5, 6] rfl) w
    · have h := h2 c1
      refine lv_iload_n hx hb dX0_linkOf_79 rfl (lv_at hl 3 rfl) ?_
      refine lv_iload hx hb dX0_linkOf_80 (lv_at hl 8 rfl) ?_
      refine lv_iload hx hb dX0_linkOf_82 (lv_at hl 6 rfl) ?_
      obtain ⟨h1, h2⟩ := h
      refine lv_icmp_ne (tgt := 91) hx hb dX0_linkOf_84 (by decide) (fun c1 => ?_) (fun c1 => ?_)
      · have h := h1 c1
        refine lv_aload_n hx hb dX0_linkOf_91 rfl (lv_at hl 0 rfl) ?_
        refine cr_get C w 0 rfl rfl in_X0 0 (by decide) q162 rfl rfl dX0_linkOf_92 ?_
        refine lv_iload hx hb dX0_linkOf_95 (lv_at hl 5 rfl) ?_
        obtain ⟨hi, h⟩ := h
        have hj1 := vp_lt hi
        refine cr_gout C w hi dX0_linkOf_97 ?_
        refine lv_iload hx hb dX0_linkOf_98 (lv_at hl 8 rfl) ?_
        obtain ⟨hi, h⟩ := h
        refine cr_gin C w hj1 hi dX0_linkOf_100 ?_
        obtain ⟨h1, h2⟩ := h
        refine lv_ifnonnullQ (tgt := 108) hx hb dX0_linkOf_101 (by decide) (fun g2 c1 => ?_) (fun c1 => ?_)
        · have h := h1 g2 c1
          refine lv_iconst (v := 1) hx hb dX0_linkOf_108 (by decide) ?_
          exact C_linkOf_a109 C hT10 hT22 hT68 hT132 h (lv_sub hl [0, 1, 2, 4, 5, 6, 7, 8] rfl) w
        · have h := h2 c1
          refine lv_iconst (v := 2) hx hb dX0_linkOf_104 (by decide) ?_
          refine lv_goto (tgt := 109) hx hb dX0_linkOf_105 (by decide) ?_
          exact C_linkOf_a109 C hT10 hT22 hT68 hT132 h (lv_sub hl [0, 1, 2, 4, 5, 6, 7, 8] rfl) w
      · have h := h2 c1
        refine lv_iconst (v := 0) hx hb dX0_linkOf_87 (by decide) ?_
        refine lv_goto (tgt := 109) hx hb dX0_linkOf_88 (by decide) ?_
        exact C_linkOf_a109 C hT10 hT22 hT68 hT132 h (lv_sub hl [0, 1, 2, 4, 5, 6, 7, 8] rfl) w
def C_linkOf_w62 (post : Int32 → CS → Prop) (T10 : Int32 → Int32 → Int32 → Int32 → Int32 → CS → Prop) (T22 : Int32 → Int32 → Int32 → Int32 → Int32 → Int32 → CS → Prop) (T68 : Int32 → Int32 → Int32 → Int32 → Int32 → Int32 → Int32 → Int32 → CS → Prop) (T132 : Int32 → Int32 → Int32 → Int32 → Int32 → CS → Prop) (v0 : Int32) (v1 : Int32) (x1 : Int32) (x2 : Int32) (x3 : Int32) (x5 : Int32) (x6 : Int32) (x7 : Int32) (S : CS) : Prop :=
  T68 x1 x2 x3 (v1 + v0) x5 x6 x7 (0 : Int32) S
set_option maxHeartbeats 4000000 in
set_option maxRecDepth 100000 in
theorem C_linkOf_a62 {p : Program} {l : Launch} {e : Env} {s : State} {m : MethodId} {args : Array Value} {below : List Frame} {meth : Method} {c : Code} {D : va_G} {dA : Nat → ClassId} {o : Nat → Nat} {A : Nat → Prop} {post : Int32 → CS → Prop} {T10 : Int32 → Int32 → Int32 → Int32 → Int32 → CS → Prop} {T22 : Int32 → Int32 → Int32 → Int32 → Int32 → Int32 → CS → Prop} {T68 : Int32 → Int32 → Int32 → Int32 → Int32 → Int32 → Int32 → Int32 → CS → Prop} {T132 : Int32 → Int32 → Int32 → Int32 → Int32 → CS → Prop} (C : cC RX0 p m c cX0_linkOf 9 s args meth (Option.some Jvm.ClassFile.FieldType.int) A) (hT10 : ∀ (x1 : Int32) (x2 : Int32) (x3 : Int32) (x4 : Int32) (x5 : Int32) (S : CS), T10 x1 x2 x3 x4 x5 S → ∀ (H : Heap) (locs : List Loc) (ls : Array Slot), lv_has ls 9 [(0, .ref (o 0)), (1, .int x1), (2, .int x2), (3, .int x3), (4, .int x4), (5, .int x5)] → cw D dA o A s S H locs → W p l e (rC_linkOf) s m args below meth c H locs 0 0 (cQi below args s D dA o A (rC_linkOf) post) (F0 m 10 ls [])) (hT22 : ∀ (x1 : Int32) (x2 : Int32) (x3 : Int32) (x4 : Int32) (x5 : Int32) (x6 : Int32) (S : CS), T22 x1 x2 x3 x4 x5 x6 S → ∀ (H : Heap) (locs : List Loc) (ls : Array Slot), lv_has ls 9 [(0, .ref (o 0)), (1, .int x1), (2, .int x2), (3, .int x3), (4, .int x4), (5, .int x5), (6, .int x6)] → cw D dA o A s S H locs → W p l e (rC_linkOf) s m args below meth c H locs 0 0 (cQi below args s D dA o A (rC_linkOf) post) (F0 m 22 ls [])) (hT68 : ∀ (x1 : Int32) (x2 : Int32) (x3 : Int32) (x4 : Int32) (x5 : Int32) (x6 : Int32) (x7 : Int32) (x8 : Int32) (S : CS), T68 x1 x2 x3 x4 x5 x6 x7 x8 S → ∀ (H : Heap) (locs : List Loc) (ls : Array Slot), lv_has ls 9 [(0, .ref (o 0)), (1, .int x1), (2, .int x2), (3, .int x3), (4, .int x4), (5, .int x5), (6, .int x6), (7, .int x7), (8, .int x8)] → cw D dA o A s S H locs → W p l e (rC_linkOf) s m args below meth c H locs 0 0 (cQi below args s D dA o A (rC_linkOf) post) (F0 m 68 ls [])) (hT132 : ∀ (x1 : Int32) (x2 : Int32) (x3 : Int32) (x4 : Int32) (x5 : Int32) (S : CS), T132 x1 x2 x3 x4 x5 S → ∀ (H : Heap) (locs : List Loc) (ls : Array Slot), lv_has ls 9 [(0, .ref (o 0)), (1, .int x1), (2, .int x2), (3, .int x3), (4, .int x4), (5, .int x5)] → cw D dA o A s S H locs → W p l e (rC_linkOf) s m args below meth c H locs 0 0 (cQi below args s D dA o A (rC_linkOf) post) (F0 m 132 ls [])) {v0 : Int32} {v1 : Int32} {x1 : Int32} {x2 : Int32} {x3 : Int32} {x5 : Int32} {x6 : Int32} {x7 : Int32} {S : CS} (h : C_linkOf_w62 post T10 T22 T68 T132 v0 v1 x1 x2 x3 x5 x6 x7 S) {H : Heap} {locs : List Loc} {ls : Array Slot} (hl : lv_has ls 9 [(0, .ref (o 0)), (1, .int x1), (2, .int x2), (3, .int x3), (5, .int x5), (6, .int x6), (7, .int x7)]) (w : cw D dA o A s S H locs) : W p l e (rC_linkOf) s m args below meth c H locs 0 0 (cQi below args s D dA o A (rC_linkOf) post) (F0 m 62 ls [.int v0, .int v1]) := by
  unfold C_linkOf_w62 at h
  obtain ⟨⟨hx, hb, hml, hown, hts⟩, hr, hlk, hA⟩ := id C
  refine lv_iadd hx hb dX0_linkOf_62 ?_
  refine lv_istore (lv' := [(4, .int _), (0, .ref _), (1, .int _), (2, .int _), (3, .int _), (5, .int _), (6, .int _), (7, .int _)]) hx hb dX0_linkOf_63 hl (by decide) rfl (fun ls hl => ?_)
  refine lv_iconst (v := 0) hx hb dX0_linkOf_65 (by decide) ?_
  refine lv_istore (lv' := [(8, .int _), (4, .int _), (0, .ref _), (1, .int _), (2, .int _), (3, .int _), (5, .int _), (6, .int _), (7, .int _)]) hx hb dX0_linkOf_66 hl (by decide) rfl (fun ls hl => ?_)
  exact hT68 _ _ _ _ _ _ _ _ _ h _ _ _ (lv_sub hl [2, 3, 4, 5, 1, 6, 7, 8, 0] rfl) w
def C_linkOf_w48 (post : Int32 → CS → Prop) (T10 : Int32 → Int32 → Int32 → Int32 → Int32 → CS → Prop) (T22 : Int32 → Int32 → Int32 → Int32 → Int32 → Int32 → CS → Prop) (T68 : Int32 → Int32 → Int32 → Int32 → Int32 → Int32 → Int32 → Int32 → CS → Prop) (T132 : Int32 → Int32 → Int32 → Int32 → Int32 → CS → Prop) (v0 : Int32) (x1 : Int32) (x2 : Int32) (x3 : Int32) (x4 : Int32) (x5 : Int32) (x6 : Int32) (S : CS) : Prop :=
  ((v0 = 0 → C_linkOf_w62 post T10 T22 T68 T132 (0 : Int32) x4 x1 x2 x3 x5 x6 v0 S) ∧ (¬ v0 = 0 → C_linkOf_w62 post T10 T22 T68 T132 (1 : Int32) x4 x1 x2 x3 x5 x6 v0 S))
set_option maxHeartbeats 4000000 in
set_option maxRecDepth 100000 in
theorem C_linkOf_a48 {p : Program} {l : Launch} {e : Env} {s : State} {m : MethodId} {args : Array Value} {below : List Frame} {meth : Method} {c : Code} {D : va_G} {dA : Nat → ClassId} {o : Nat → Nat} {A : Nat → Prop} {post : Int32 → CS → Prop} {T10 : Int32 → Int32 → Int32 → Int32 → Int32 → CS → Prop} {T22 : Int32 → Int32 → Int32 → Int32 → Int32 → Int32 → CS → Prop} {T68 : Int32 → Int32 → Int32 → Int32 → Int32 → Int32 → Int32 → Int32 → CS → Prop} {T132 : Int32 → Int32 → Int32 → Int32 → Int32 → CS → Prop} (C : cC RX0 p m c cX0_linkOf 9 s args meth (Option.some Jvm.ClassFile.FieldType.int) A) (hT10 : ∀ (x1 : Int32) (x2 : Int32) (x3 : Int32) (x4 : Int32) (x5 : Int32) (S : CS), T10 x1 x2 x3 x4 x5 S → ∀ (H : Heap) (locs : List Loc) (ls : Array Slot), lv_has ls 9 [(0, .ref (o 0)), (1, .int x1), (2, .int x2), (3, .int x3), (4, .int x4), (5, .int x5)] → cw D dA o A s S H locs → W p l e (rC_linkOf) s m args below meth c H locs 0 0 (cQi below args s D dA o A (rC_linkOf) post) (F0 m 10 ls [])) (hT22 : ∀ (x1 : Int32) (x2 : Int32) (x3 : Int32) (x4 : Int32) (x5 : Int32) (x6 : Int32) (S : CS), T22 x1 x2 x3 x4 x5 x6 S → ∀ (H : Heap) (locs : List Loc) (ls : Array Slot), lv_has ls 9 [(0, .ref (o 0)), (1, .int x1), (2, .int x2), (3, .int x3), (4, .int x4), (5, .int x5), (6, .int x6)] → cw D dA o A s S H locs → W p l e (rC_linkOf) s m args below meth c H locs 0 0 (cQi below args s D dA o A (rC_linkOf) post) (F0 m 22 ls [])) (hT68 : ∀ (x1 : Int32) (x2 : Int32) (x3 : Int32) (x4 : Int32) (x5 : Int32) (x6 : Int32) (x7 : Int32) (x8 : Int32) (S : CS), T68 x1 x2 x3 x4 x5 x6 x7 x8 S → ∀ (H : Heap) (locs : List Loc) (ls : Array Slot), lv_has ls 9 [(0, .ref (o 0)), (1, .int x1), (2, .int x2), (3, .int x3), (4, .int x4), (5, .int x5), (6, .int x6), (7, .int x7), (8, .int x8)] → cw D dA o A s S H locs → W p l e (rC_linkOf) s m args below meth c H locs 0 0 (cQi below args s D dA o A (rC_linkOf) post) (F0 m 68 ls [])) (hT132 : ∀ (x1 : Int32) (x2 : Int32) (x3 : Int32) (x4 : Int32) (x5 : Int32) (S : CS), T132 x1 x2 x3 x4 x5 S → ∀ (H : Heap) (locs : List Loc) (ls : Array Slot), lv_has ls 9 [(0, .ref (o 0)), (1, .int x1), (2, .int x2), (3, .int x3), (4, .int x4), (5, .int x5)] → cw D dA o A s S H locs → W p l e (rC_linkOf) s m args below meth c H locs 0 0 (cQi below args s D dA o A (rC_linkOf) post) (F0 m 132 ls [])) {v0 : Int32} {x1 : Int32} {x2 : Int32} {x3 : Int32} {x4 : Int32} {x5 : Int32} {x6 : Int32} {S : CS} (h : C_linkOf_w48 post T10 T22 T68 T132 v0 x1 x2 x3 x4 x5 x6 S) {H : Heap} {locs : List Loc} {ls : Array Slot} (hl : lv_has ls 9 [(0, .ref (o 0)), (1, .int x1), (2, .int x2), (3, .int x3), (4, .int x4), (5, .int x5), (6, .int x6)]) (w : cw D dA o A s S H locs) : W p l e (rC_linkOf) s m args below meth c H locs 0 0 (cQi below args s D dA o A (rC_linkOf) post) (F0 m 48 ls [.int v0]) := by
  unfold C_linkOf_w48 at h
  obtain ⟨⟨hx, hb, hml, hown, hts⟩, hr, hlk, hA⟩ := id C
  refine lv_istore (lv' := [(7, .int _), (0, .ref _), (1, .int _), (2, .int _), (3, .int _), (4, .int _), (5, .int _), (6, .int _)]) hx hb dX0_linkOf_48 hl (by decide) rfl (fun ls hl => ?_)
  refine lv_iload hx hb dX0_linkOf_50 (lv_at hl 5 rfl) ?_
  refine lv_iload hx hb dX0_linkOf_52 (lv_at hl 0 rfl) ?_
  obtain ⟨h1, h2⟩ := h
  refine lv_if_eq (tgt := 61) hx hb dX0_linkOf_54 (by decide) (fun c1 => ?_) (fun c1 => ?_)
  · have h := h1 c1
    refine lv_iconst (v := 0) hx hb dX0_linkOf_61 (by decide) ?_
    exact C_linkOf_a62 C hT10 hT22 hT68 hT132 h (lv_sub hl [1, 2, 3, 4, 6, 7, 0] rfl) w
  · have h := h2 c1
    refine lv_iconst (v := 1) hx hb dX0_linkOf_57 (by decide) ?_
    refine lv_goto (tgt := 62) hx hb dX0_linkOf_58 (by decide) ?_
    exact C_linkOf_a62 C hT10 hT22 hT68 hT132 h (lv_sub hl [1, 2, 3, 4, 6, 7, 0] rfl) w
def C_linkOf_w22 (post : Int32 → CS → Prop) (T10 : Int32 → Int32 → Int32 → Int32 → Int32 → CS → Prop) (T22 : Int32 → Int32 → Int32 → Int32 → Int32 → Int32 → CS → Prop) (T68 : Int32 → Int32 → Int32 → Int32 → Int32 → Int32 → Int32 → Int32 → CS → Prop) (T132 : Int32 → Int32 → Int32 → Int32 → Int32 → CS → Prop) (x1 : Int32) (x2 : Int32) (x3 : Int32) (x4 : Int32) (x5 : Int32) (x6 : Int32) (S : CS) : Prop :=
  (((4 : Int32) ≤ x6 → T10 x1 x2 x3 x4 (x5 + (1 : Int32)) S) ∧ (¬ (4 : Int32) ≤ x6 → C_ofS2 x5 x6 S (fun (r1 : Int32) (S1 : CS) => ((¬ r1 = x1 → C_linkOf_w48 post T10 T22 T68 T132 (0 : Int32) x1 x2 x3 x4 x5 x6 S1) ∧ (r1 = x1 → C_linkOf_w48 post T10 T22 T68 T132 (1 : Int32) x1 x2 x3 x4 x5 x6 S1)))))
set_option maxHeartbeats 4000000 in
set_option maxRecDepth 100000 in
theorem C_linkOf_a22 {p : Program} {l : Launch} {e : Env} {s : State} {m : MethodId} {args : Array Value} {below : List Frame} {meth : Method} {c : Code} {D : va_G} {dA : Nat → ClassId} {o : Nat → Nat} {A : Nat → Prop} {post : Int32 → CS → Prop} {T10 : Int32 → Int32 → Int32 → Int32 → Int32 → CS → Prop} {T22 : Int32 → Int32 → Int32 → Int32 → Int32 → Int32 → CS → Prop} {T68 : Int32 → Int32 → Int32 → Int32 → Int32 → Int32 → Int32 → Int32 → CS → Prop} {T132 : Int32 → Int32 → Int32 → Int32 → Int32 → CS → Prop} (C : cC RX0 p m c cX0_linkOf 9 s args meth (Option.some Jvm.ClassFile.FieldType.int) A) (hT10 : ∀ (x1 : Int32) (x2 : Int32) (x3 : Int32) (x4 : Int32) (x5 : Int32) (S : CS), T10 x1 x2 x3 x4 x5 S → ∀ (H : Heap) (locs : List Loc) (ls : Array Slot), lv_has ls 9 [(0, .ref (o 0)), (1, .int x1), (2, .int x2), (3, .int x3), (4, .int x4), (5, .int x5)] → cw D dA o A s S H locs → W p l e (rC_linkOf) s m args below meth c H locs 0 0 (cQi below args s D dA o A (rC_linkOf) post) (F0 m 10 ls [])) (hT22 : ∀ (x1 : Int32) (x2 : Int32) (x3 : Int32) (x4 : Int32) (x5 : Int32) (x6 : Int32) (S : CS), T22 x1 x2 x3 x4 x5 x6 S → ∀ (H : Heap) (locs : List Loc) (ls : Array Slot), lv_has ls 9 [(0, .ref (o 0)), (1, .int x1), (2, .int x2), (3, .int x3), (4, .int x4), (5, .int x5), (6, .int x6)] → cw D dA o A s S H locs → W p l e (rC_linkOf) s m args below meth c H locs 0 0 (cQi below args s D dA o A (rC_linkOf) post) (F0 m 22 ls [])) (hT68 : ∀ (x1 : Int32) (x2 : Int32) (x3 : Int32) (x4 : Int32) (x5 : Int32) (x6 : Int32) (x7 : Int32) (x8 : Int32) (S : CS), T68 x1 x2 x3 x4 x5 x6 x7 x8 S → ∀ (H : Heap) (locs : List Loc) (ls : Array Slot), lv_has ls 9 [(0, .ref (o 0)), (1, .int x1), (2, .int x2), (3, .int x3), (4, .int x4), (5, .int x5), (6, .int x6), (7, .int x7), (8, .int x8)] → cw D dA o A s S H locs → W p l e (rC_linkOf) s m args below meth c H locs 0 0 (cQi below args s D dA o A (rC_linkOf) post) (F0 m 68 ls [])) (hT132 : ∀ (x1 : Int32) (x2 : Int32) (x3 : Int32) (x4 : Int32) (x5 : Int32) (S : CS), T132 x1 x2 x3 x4 x5 S → ∀ (H : Heap) (locs : List Loc) (ls : Array Slot), lv_has ls 9 [(0, .ref (o 0)), (1, .int x1), (2, .int x2), (3, .int x3), (4, .int x4), (5, .int x5)] → cw D dA o A s S H locs → W p l e (rC_linkOf) s m args below meth c H locs 0 0 (cQi below args s D dA o A (rC_linkOf) post) (F0 m 132 ls [])) {x1 : Int32} {x2 : Int32} {x3 : Int32} {x4 : Int32} {x5 : Int32} {x6 : Int32} {S : CS} (h : C_linkOf_w22 post T10 T22 T68 T132 x1 x2 x3 x4 x5 x6 S) {H : Heap} {locs : List Loc} {ls : Array Slot} (hl : lv_has ls 9 [(0, .ref (o 0)), (1, .int x1), (2, .int x2), (3, .int x3), (4, .int x4), (5, .int x5), (6, .int x6)]) (w : cw D dA o A s S H locs) : W p l e (rC_linkOf) s m args below meth c H locs 0 0 (cQi below args s D dA o A (rC_linkOf) post) (F0 m 22 ls []) := by
  unfold C_linkOf_w22 at h
  obtain ⟨⟨hx, hb, hml, hown, hts⟩, hr, hlk, hA⟩ := id C
  refine lv_iload hx hb dX0_linkOf_22 (lv_at hl 6 rfl) ?_
  refine lv_iconst (v := 4) hx hb dX0_linkOf_24 (by decide) ?_
  obtain ⟨h1, h2⟩ := h
  refine lv_icmp_ge (tgt := 123) hx hb dX0_linkOf_25 (by decide) (fun c1 => ?_) (fun c1 => ?_)
  · have h := h1 c1
    refine lv_iinc (v := _ + (1 : Int32)) (lv' := [(5, .int _), (0, .ref _), (1, .int _), (2, .int _), (3, .int _), (4, .int _), (6, .int _)]) hx hb dX0_linkOf_123 hl (k := 5) rfl rfl (by decide) rfl (fun ls hl => ?_)
    refine lv_goto (tgt := 10) hx hb dX0_linkOf_126 (by decide) ?_
    exact hT10 _ _ _ _ _ _ h _ _ _ (lv_sub hl [1, 2, 3, 4, 5, 0] rfl) w
  · have h := h2 c1
    refine lv_aload_n hx hb dX0_linkOf_28 rfl (lv_at hl 0 rfl) ?_
    refine cr_get C w 0 rfl rfl in_X0 2 (by decide) q166 rfl rfl dX0_linkOf_29 ?_
    refine lv_iload hx hb dX0_linkOf_32 (lv_at hl 5 rfl) ?_
    refine lv_iload hx hb dX0_linkOf_34 (lv_at hl 6 rfl) ?_
    refine cr_callUI (owner := RX1) (rest := []) (b := fun o => o 2) C w h (recv2 w) (va_cwU 2 hts (lw_U q329 q330 q332 q333 q83 q334) rfl rfl rfl rfl (by decide +kernel) ⟨Nat.le_of_ble_eq_true rfl, Nat.le_of_ble_eq_true rfl⟩) rfl hl.1 rfl (Nat.le_of_ble_eq_true rfl) ⟨Nat.le_of_ble_eq_true rfl, Nat.le_of_ble_eq_true rfl⟩ dX0_linkOf_36 (fun r1 S1 H locs h w => ?_)
    refine lv_iload_n hx hb dX0_linkOf_39 rfl (lv_at hl 1 rfl) ?_
    obtain ⟨h1, h2⟩ := h
    refine lv_icmp_ne (tgt := 47) hx hb dX0_linkOf_40 (by decide) (fun c1 => ?_) (fun c1 => ?_)
    · have h := h1 c1
      refine lv_iconst (v := 0) hx hb dX0_linkOf_47 (by decide) ?_
      exact C_linkOf_a48 C hT10 hT22 hT68 hT132 h (lv_sub hl [0, 1, 2, 3, 4, 5, 6] rfl) w
    · have h := h2 c1
      refine lv_iconst (v := 1) hx hb dX0_linkOf_43 (by decide) ?_
      refine lv_goto (tgt := 48) hx hb dX0_linkOf_44 (by decide) ?_
      exact C_linkOf_a48 C hT10 hT22 hT68 hT132 h (lv_sub hl [0, 1, 2, 3, 4, 5, 6] rfl) w
def C_linkOf_w10 (post : Int32 → CS → Prop) (T10 : Int32 → Int32 → Int32 → Int32 → Int32 → CS → Prop) (T22 : Int32 → Int32 → Int32 → Int32 → Int32 → Int32 → CS → Prop) (T68 : Int32 → Int32 → Int32 → Int32 → Int32 → Int32 → Int32 → Int32 → CS → Prop) (T132 : Int32 → Int32 → Int32 → Int32 → Int32 → CS → Prop) (x1 : Int32) (x2 : Int32) (x3 : Int32) (x4 : Int32) (x5 : Int32) (S : CS) : Prop :=
  (((kF S 1) ≤ x5 → T132 x1 x2 x3 x4 (0 : Int32) S) ∧ (¬ (kF S 1) ≤ x5 → T22 x1 x2 x3 x4 x5 (0 : Int32) S))
set_option maxHeartbeats 4000000 in
set_option maxRecDepth 100000 in
theorem C_linkOf_a10 {p : Program} {l : Launch} {e : Env} {s : State} {m : MethodId} {args : Array Value} {below : List Frame} {meth : Method} {c : Code} {D : va_G} {dA : Nat → ClassId} {o : Nat → Nat} {A : Nat → Prop} {post : Int32 → CS → Prop} {T10 : Int32 → Int32 → Int32 → Int32 → Int32 → CS → Prop} {T22 : Int32 → Int32 → Int32 → Int32 → Int32 → Int32 → CS → Prop} {T68 : Int32 → Int32 → Int32 → Int32 → Int32 → Int32 → Int32 → Int32 → CS → Prop} {T132 : Int32 → Int32 → Int32 → Int32 → Int32 → CS → Prop} (C : cC RX0 p m c cX0_linkOf 9 s args meth (Option.some Jvm.ClassFile.FieldType.int) A) (hT10 : ∀ (x1 : Int32) (x2 : Int32) (x3 : Int32) (x4 : Int32) (x5 : Int32) (S : CS), T10 x1 x2 x3 x4 x5 S → ∀ (H : Heap) (locs : List Loc) (ls : Array Slot), lv_has ls 9 [(0, .ref (o 0)), (1, .int x1), (2, .int x2), (3, .int x3), (4, .int x4), (5, .int x5)] → cw D dA o A s S H locs → W p l e (rC_linkOf) s m args below meth c H locs 0 0 (cQi below args s D dA o A (rC_linkOf) post) (F0 m 10 ls [])) (hT22 : ∀ (x1 : Int32) (x2 : Int32) (x3 : Int32) (x4 : Int32) (x5 : Int32) (x6 : Int32) (S : CS), T22 x1 x2 x3 x4 x5 x6 S → ∀ (H : Heap) (locs : List Loc) (ls : Array Slot), lv_has ls 9 [(0, .ref (o 0)), (1, .int x1), (2, .int x2), (3, .int x3), (4, .int x4), (5, .int x5), (6, .int x6)] → cw D dA o A s S H locs → W p l e (rC_linkOf) s m args below meth c H locs 0 0 (cQi below args s D dA o A (rC_linkOf) post) (F0 m 22 ls [])) (hT68 : ∀ (x1 : Int32) (x2 : Int32) (x3 : Int32) (x4 : Int32) (x5 : Int32) (x6 : Int32) (x7 : Int32) (x8 : Int32) (S : CS), T68 x1 x2 x3 x4 x5 x6 x7 x8 S → ∀ (H : Heap) (locs : List Loc) (ls : Array Slot), lv_has ls 9 [(0, .ref (o 0)), (1, .int x1), (2, .int x2), (3, .int x3), (4, .int x4), (5, .int x5), (6, .int x6), (7, .int x7), (8, .int x8)] → cw D dA o A s S H locs → W p l e (rC_linkOf) s m args below meth c H locs 0 0 (cQi below args s D dA o A (rC_linkOf) post) (F0 m 68 ls [])) (hT132 : ∀ (x1 : Int32) (x2 : Int32) (x3 : Int32) (x4 : Int32) (x5 : Int32) (S : CS), T132 x1 x2 x3 x4 x5 S → ∀ (H : Heap) (locs : List Loc) (ls : Array Slot), lv_has ls 9 [(0, .ref (o 0)), (1, .int x1), (2, .int x2), (3, .int x3), (4, .int x4), (5, .int x5)] → cw D dA o A s S H locs → W p l e (rC_linkOf) s m args below meth c H locs 0 0 (cQi below args s D dA o A (rC_linkOf) post) (F0 m 132 ls [])) {x1 : Int32} {x2 : Int32} {x3 : Int32} {x4 : Int32} {x5 : Int32} {S : CS} (h : C_linkOf_w10 post T10 T22 T68 T132 x1 x2 x3 x4 x5 S) {H : Heap} {locs : List Loc} {ls : Array Slot} (hl : lv_has ls 9 [(0, .ref (o 0)), (1, .int x1), (2, .int x2), (3, .int x3), (4, .int x4), (5, .int x5)]) (w : cw D dA o A s S H locs) : W p l e (rC_linkOf) s m args below meth c H locs 0 0 (cQi below args s D dA o A (rC_linkOf) post) (F0 m 10 ls []) := by
  unfold C_linkOf_w10 at h
  obtain ⟨⟨hx, hb, hml, hown, hts⟩, hr, hlk, hA⟩ := id C
  refine lv_iload hx hb dX0_linkOf_10 (lv_at hl 5 rfl) ?_
  refine lv_aload_n hx hb dX0_linkOf_12 rfl (lv_at hl 0 rfl) ?_
  refine cr_get C w 0 rfl rfl in_X0 1 (by decide) q164 rfl rfl dX0_linkOf_13 ?_
  obtain ⟨h1, h2⟩ := h
  refine lv_icmp_ge (tgt := 129) hx hb dX0_linkOf_16 (by decide) (fun c1 => ?_) (fun c1 => ?_)
  · have h := h1 c1
    refine lv_iconst (v := 0) hx hb dX0_linkOf_129 (by decide) ?_
    refine lv_istore (lv' := [(5, .int _), (0, .ref _), (1, .int _), (2, .int _), (3, .int _), (4, .int _)]) hx hb dX0_linkOf_130 hl (by decide) rfl (fun ls hl => ?_)
    exact hT132 _ _ _ _ _ _ h _ _ _ (lv_sub hl [1, 2, 3, 4, 5, 0] rfl) w
  · have h := h2 c1
    refine lv_iconst (v := 0) hx hb dX0_linkOf_19 (by decide) ?_
    refine lv_istore (lv' := [(6, .int _), (0, .ref _), (1, .int _), (2, .int _), (3, .int _), (4, .int _), (5, .int _)]) hx hb dX0_linkOf_20 hl (by decide) rfl (fun ls hl => ?_)
    exact hT22 _ _ _ _ _ _ _ h _ _ _ (lv_sub hl [1, 2, 3, 4, 5, 6, 0] rfl) w
def C_linkOf_w0 (post : Int32 → CS → Prop) (T10 : Int32 → Int32 → Int32 → Int32 → Int32 → CS → Prop) (T22 : Int32 → Int32 → Int32 → Int32 → Int32 → Int32 → CS → Prop) (T68 : Int32 → Int32 → Int32 → Int32 → Int32 → Int32 → Int32 → Int32 → CS → Prop) (T132 : Int32 → Int32 → Int32 → Int32 → Int32 → CS → Prop) (x1 : Int32) (S : CS) : Prop :=
  T10 x1 (0 : Int32) (0 : Int32) (0 : Int32) (0 : Int32) S
set_option maxHeartbeats 4000000 in
set_option maxRecDepth 100000 in
theorem C_linkOf_a0 {p : Program} {l : Launch} {e : Env} {s : State} {m : MethodId} {args : Array Value} {below : List Frame} {meth : Method} {c : Code} {D : va_G} {dA : Nat → ClassId} {o : Nat → Nat} {A : Nat → Prop} {post : Int32 → CS → Prop} {T10 : Int32 → Int32 → Int32 → Int32 → Int32 → CS → Prop} {T22 : Int32 → Int32 → Int32 → Int32 → Int32 → Int32 → CS → Prop} {T68 : Int32 → Int32 → Int32 → Int32 → Int32 → Int32 → Int32 → Int32 → CS → Prop} {T132 : Int32 → Int32 → Int32 → Int32 → Int32 → CS → Prop} (C : cC RX0 p m c cX0_linkOf 9 s args meth (Option.some Jvm.ClassFile.FieldType.int) A) (hT10 : ∀ (x1 : Int32) (x2 : Int32) (x3 : Int32) (x4 : Int32) (x5 : Int32) (S : CS), T10 x1 x2 x3 x4 x5 S → ∀ (H : Heap) (locs : List Loc) (ls : Array Slot), lv_has ls 9 [(0, .ref (o 0)), (1, .int x1), (2, .int x2), (3, .int x3), (4, .int x4), (5, .int x5)] → cw D dA o A s S H locs → W p l e (rC_linkOf) s m args below meth c H locs 0 0 (cQi below args s D dA o A (rC_linkOf) post) (F0 m 10 ls [])) (hT22 : ∀ (x1 : Int32) (x2 : Int32) (x3 : Int32) (x4 : Int32) (x5 : Int32) (x6 : Int32) (S : CS), T22 x1 x2 x3 x4 x5 x6 S → ∀ (H : Heap) (locs : List Loc) (ls : Array Slot), lv_has ls 9 [(0, .ref (o 0)), (1, .int x1), (2, .int x2), (3, .int x3), (4, .int x4), (5, .int x5), (6, .int x6)] → cw D dA o A s S H locs → W p l e (rC_linkOf) s m args below meth c H locs 0 0 (cQi below args s D dA o A (rC_linkOf) post) (F0 m 22 ls [])) (hT68 : ∀ (x1 : Int32) (x2 : Int32) (x3 : Int32) (x4 : Int32) (x5 : Int32) (x6 : Int32) (x7 : Int32) (x8 : Int32) (S : CS), T68 x1 x2 x3 x4 x5 x6 x7 x8 S → ∀ (H : Heap) (locs : List Loc) (ls : Array Slot), lv_has ls 9 [(0, .ref (o 0)), (1, .int x1), (2, .int x2), (3, .int x3), (4, .int x4), (5, .int x5), (6, .int x6), (7, .int x7), (8, .int x8)] → cw D dA o A s S H locs → W p l e (rC_linkOf) s m args below meth c H locs 0 0 (cQi below args s D dA o A (rC_linkOf) post) (F0 m 68 ls [])) (hT132 : ∀ (x1 : Int32) (x2 : Int32) (x3 : Int32) (x4 : Int32) (x5 : Int32) (S : CS), T132 x1 x2 x3 x4 x5 S → ∀ (H : Heap) (locs : List Loc) (ls : Array Slot), lv_has ls 9 [(0, .ref (o 0)), (1, .int x1), (2, .int x2), (3, .int x3), (4, .int x4), (5, .int x5)] → cw D dA o A s S H locs → W p l e (rC_linkOf) s m args below meth c H locs 0 0 (cQi below args s D dA o A (rC_linkOf) post) (F0 m 132 ls [])) {x1 : Int32} {S : CS} (h : C_linkOf_w0 post T10 T22 T68 T132 x1 S) {H : Heap} {locs : List Loc} {ls : Array Slot} (hl : lv_has ls 9 [(0, .ref (o 0)), (1, .int x1)]) (w : cw D dA o A s S H locs) : W p l e (rC_linkOf) s m args below meth c H locs 0 0 (cQi below args s D dA o A (rC_linkOf) post) (F0 m 0 ls []) := by
  unfold C_linkOf_w0 at h
  obtain ⟨⟨hx, hb, hml, hown, hts⟩, hr, hlk, hA⟩ := id C
  refine lv_iconst (v := 0) hx hb dX0_linkOf_0 (by decide) ?_
  refine lv_istore_n (lv' := [(2, .int _), (0, .ref _), (1, .int _)]) hx hb dX0_linkOf_1 rfl hl (by decide) rfl (fun ls hl => ?_)
  refine lv_iconst (v := 0) hx hb dX0_linkOf_2 (by decide) ?_
  refine lv_istore_n (lv' := [(3, .int _), (2, .int _), (0, .ref _), (1, .int _)]) hx hb dX0_linkOf_3 rfl hl (by decide) rfl (fun ls hl => ?_)
  refine lv_iconst (v := 0) hx hb dX0_linkOf_4 (by decide) ?_
  refine lv_istore (lv' := [(4, .int _), (3, .int _), (2, .int _), (0, .ref _), (1, .int _)]) hx hb dX0_linkOf_5 hl (by decide) rfl (fun ls hl => ?_)
  refine lv_iconst (v := 0) hx hb dX0_linkOf_7 (by decide) ?_
  refine lv_istore (lv' := [(5, .int _), (4, .int _), (3, .int _), (2, .int _), (0, .ref _), (1, .int _)]) hx hb dX0_linkOf_8 hl (by decide) rfl (fun ls hl => ?_)
  exact hT10 _ _ _ _ _ _ h _ _ _ (lv_sub hl [4, 5, 3, 2, 1, 0] rfl) w
def C_linkOf_VC (x1 : Int32) (S : CS) (post : Int32 → CS → Prop) : Prop := ∀ (T10 : Int32 → Int32 → Int32 → Int32 → Int32 → CS → Prop) (T22 : Int32 → Int32 → Int32 → Int32 → Int32 → Int32 → CS → Prop) (T68 : Int32 → Int32 → Int32 → Int32 → Int32 → Int32 → Int32 → Int32 → CS → Prop) (T132 : Int32 → Int32 → Int32 → Int32 → Int32 → CS → Prop), (∀ (x1 : Int32) (x2 : Int32) (x3 : Int32) (x4 : Int32) (x5 : Int32) (S : CS), C_linkOf_w10 post T10 T22 T68 T132 x1 x2 x3 x4 x5 S → T10 x1 x2 x3 x4 x5 S) → (∀ (x1 : Int32) (x2 : Int32) (x3 : Int32) (x4 : Int32) (x5 : Int32) (x6 : Int32) (S : CS), C_linkOf_w22 post T10 T22 T68 T132 x1 x2 x3 x4 x5 x6 S → T22 x1 x2 x3 x4 x5 x6 S) → (∀ (x1 : Int32) (x2 : Int32) (x3 : Int32) (x4 : Int32) (x5 : Int32) (x6 : Int32) (x7 : Int32) (x8 : Int32) (S : CS), C_linkOf_w68 post T10 T22 T68 T132 x1 x2 x3 x4 x5 x6 x7 x8 S → T68 x1 x2 x3 x4 x5 x6 x7 x8 S) → (∀ (x1 : Int32) (x2 : Int32) (x3 : Int32) (x4 : Int32) (x5 : Int32) (S : CS), C_linkOf_w132 post T10 T22 T68 T132 x1 x2 x3 x4 x5 S → T132 x1 x2 x3 x4 x5 S) → C_linkOf_w0 post T10 T22 T68 T132 x1 S
theorem C_linkOf_ok {x1 : Int32} {S : CS} {post : Int32 → CS → Prop} (h : C_linkOf_VC x1 S post) : C_linkOf x1 S post := by
  intro l D dA o sz
  refine cr_start (fun A => va_Qi post (cB D dA o A) A) rfl (Nat.le_of_ble_eq_true rfl) (by decide) ?_
  intro p e s m args below meth c ls A C w hl
  have hl : lv_has ls 9 [(0, .ref (o 0)), (1, .int x1)] := hl
  have h := h (fun (x1 : Int32) (x2 : Int32) (x3 : Int32) (x4 : Int32) (x5 : Int32) S => ∀ (H : Heap) (locs : List Loc) (ls : Array Slot), lv_has ls 9 [(0, .ref (o 0)), (1, .int x1), (2, .int x2), (3, .int x3), (4, .int x4), (5, .int x5)] → cw D dA o A s S H locs → W p l e (rC_linkOf) s m args below meth c H locs 0 0 (cQi below args s D dA o A (rC_linkOf) post) (F0 m 10 ls [])) (fun (x1 : Int32) (x2 : Int32) (x3 : Int32) (x4 : Int32) (x5 : Int32) (x6 : Int32) S => ∀ (H : Heap) (locs : List Loc) (ls : Array Slot), lv_has ls 9 [(0, .ref (o 0)), (1, .int x1), (2, .int x2), (3, .int x3), (4, .int x4), (5, .int x5), (6, .int x6)] → cw D dA o A s S H locs → W p l e (rC_linkOf) s m args below meth c H locs 0 0 (cQi below args s D dA o A (rC_linkOf) post) (F0 m 22 ls [])) (fun (x1 : Int32) (x2 : Int32) (x3 : Int32) (x4 : Int32) (x5 : Int32) (x6 : Int32) (x7 : Int32) (x8 : Int32) S => ∀ (H : Heap) (locs : List Loc) (ls : Array Slot), lv_has ls 9 [(0, .ref (o 0)), (1, .int x1), (2, .int x2), (3, .int x3), (4, .int x4), (5, .int x5), (6, .int x6), (7, .int x7), (8, .int x8)] → cw D dA o A s S H locs → W p l e (rC_linkOf) s m args below meth c H locs 0 0 (cQi below args s D dA o A (rC_linkOf) post) (F0 m 68 ls [])) (fun (x1 : Int32) (x2 : Int32) (x3 : Int32) (x4 : Int32) (x5 : Int32) S => ∀ (H : Heap) (locs : List Loc) (ls : Array Slot), lv_has ls 9 [(0, .ref (o 0)), (1, .int x1), (2, .int x2), (3, .int x3), (4, .int x4), (5, .int x5)] → cw D dA o A s S H locs → W p l e (rC_linkOf) s m args below meth c H locs 0 0 (cQi below args s D dA o A (rC_linkOf) post) (F0 m 132 ls [])) (fun _ _ _ _ _ S h H locs ls hl w => C_linkOf_a10 C (fun _ _ _ _ _ _ h => h) (fun _ _ _ _ _ _ _ h => h) (fun _ _ _ _ _ _ _ _ _ h => h) (fun _ _ _ _ _ _ h => h) h hl w) (fun _ _ _ _ _ _ S h H locs ls hl w => C_linkOf_a22 C (fun _ _ _ _ _ _ h => h) (fun _ _ _ _ _ _ _ h => h) (fun _ _ _ _ _ _ _ _ _ h => h) (fun _ _ _ _ _ _ h => h) h hl w) (fun _ _ _ _ _ _ _ _ S h H locs ls hl w => C_linkOf_a68 C (fun _ _ _ _ _ _ h => h) (fun _ _ _ _ _ _ _ h => h) (fun _ _ _ _ _ _ _ _ _ h => h) (fun _ _ _ _ _ _ h => h) h hl w) (fun _ _ _ _ _ S h H locs ls hl w => C_linkOf_a132 C (fun _ _ _ _ _ _ h => h) (fun _ _ _ _ _ _ _ h => h) (fun _ _ _ _ _ _ _ _ _ h => h) (fun _ _ _ _ _ _ h => h) h hl w)
  exact C_linkOf_a0 C (fun _ _ _ _ _ _ h => h) (fun _ _ _ _ _ _ _ h => h) (fun _ _ _ _ _ _ _ _ _ h => h) (fun _ _ _ _ _ _ h => h) h (lv_sub hl [0, 1] rfl) w
