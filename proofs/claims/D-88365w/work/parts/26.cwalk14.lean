/-! ThirdSheets.findParts()I -/
def C_findParts_w60 (post : Int32 → CS → Prop) (T7 : Int32 → Int32 → CS → Prop) (T29 : Int32 → Int32 → Int32 → CS → Prop) (x1 : Int32) (x2 : Int32) (x3 : Int32) (S : CS) : Prop :=
  T29 x1 x2 (x3 + (1 : Int32)) S
set_option maxHeartbeats 4000000 in
set_option maxRecDepth 100000 in
theorem C_findParts_a60 {p : Program} {l : Launch} {e : Env} {s : State} {m : MethodId} {args : Array Value} {below : List Frame} {meth : Method} {c : Code} {D : va_G} {dA : Nat → ClassId} {o : Nat → Nat} {A : Nat → Prop} {post : Int32 → CS → Prop} {T7 : Int32 → Int32 → CS → Prop} {T29 : Int32 → Int32 → Int32 → CS → Prop} (C : cC RX0 p m c cX0_findParts 4 s args meth (Option.some Jvm.ClassFile.FieldType.int) A) (hT7 : ∀ (x1 : Int32) (x2 : Int32) (S : CS), T7 x1 x2 S → ∀ (H : Heap) (locs : List Loc) (ls : Array Slot), lv_has ls 4 [(0, .ref (o 0)), (1, .int x1), (2, .int x2)] → cw D dA o A s S H locs → W p l e (rC_findParts) s m args below meth c H locs 0 0 (cQi below args s D dA o A (rC_findParts) post) (F0 m 7 ls [])) (hT29 : ∀ (x1 : Int32) (x2 : Int32) (x3 : Int32) (S : CS), T29 x1 x2 x3 S → ∀ (H : Heap) (locs : List Loc) (ls : Array Slot), lv_has ls 4 [(0, .ref (o 0)), (1, .int x1), (2, .int x2), (3, .int x3)] → cw D dA o A s S H locs → W p l e (rC_findParts) s m args below meth c H locs 0 0 (cQi below args s D dA o A (rC_findParts) post) (F0 m 29 ls [])) {x1 : Int32} {x2 : Int32} {x3 : Int32} {S : CS} (h : C_findParts_w60 post T7 T29 x1 x2 x3 S) {H : Heap} {locs : List Loc} {ls : Array Slot} (hl : lv_has ls 4 [(0, .ref (o 0)), (1, .int x1), (2, .int x2), (3, .int x3)]) (w : cw D dA o A s S H locs) : W p l e (rC_findParts) s m args below meth c H locs 0 0 (cQi below args s D dA o A (rC_findParts) post) (F0 m 60 ls []) := by
  unfold C_findParts_w60 at h
  obtain ⟨⟨hx, hb, hml, hown, hts⟩, hr, hlk, hA⟩ := id C
  refine lv_iinc (v := _ + (1 : Int32)) (lv' := [(3, .int _), (0, .ref _), (1, .int _), (2, .int _)]) hx hb dX0_findParts_60 hl (k := 3) rfl rfl (by decide) rfl (fun ls hl => ?_)
  refine lv_goto (tgt := 29) hx hb dX0_findParts_63 (by decide) ?_
  exact hT29 _ _ _ _ h _ _ _ (lv_sub hl [1, 2, 3, 0] rfl) w
def C_findParts_w29 (post : Int32 → CS → Prop) (T7 : Int32 → Int32 → CS → Prop) (T29 : Int32 → Int32 → Int32 → CS → Prop) (x1 : Int32) (x2 : Int32) (x3 : Int32) (S : CS) : Prop :=
  ((x1 ≤ x3 → post x2 S) ∧ (¬ x1 ≤ x3 → (vp_in x3 400 ∧ ((¬ (kI S 15 (x3).toNatClampNeg) = (-1 : Int32) → C_findParts_w60 post T7 T29 x1 x2 x3 S) ∧ ((kI S 15 (x3).toNatClampNeg) = (-1 : Int32) → (vp_in x2 400 ∧ (fun (S1 : CS) => C_spread x3 x2 S1 (fun (S2 : CS) => C_findParts_w60 post T7 T29 x1 (x2 + (1 : Int32)) x3 S2)) (tI S 18 (x2).toNatClampNeg (0 : Int32))))))))
set_option maxHeartbeats 4000000 in
set_option maxRecDepth 100000 in
theorem C_findParts_a29 {p : Program} {l : Launch} {e : Env} {s : State} {m : MethodId} {args : Array Value} {below : List Frame} {meth : Method} {c : Code} {D : va_G} {dA : Nat → ClassId} {o : Nat → Nat} {A : Nat → Prop} {post : Int32 → CS → Prop} {T7 : Int32 → Int32 → CS → Prop} {T29 : Int32 → Int32 → Int32 → CS → Prop} (C : cC RX0 p m c cX0_findParts 4 s args meth (Option.some Jvm.ClassFile.FieldType.int) A) (hT7 : ∀ (x1 : Int32) (x2 : Int32) (S : CS), T7 x1 x2 S → ∀ (H : Heap) (locs : List Loc) (ls : Array Slot), lv_has ls 4 [(0, .ref (o 0)), (1, .int x1), (2, .int x2)] → cw D dA o A s S H locs → W p l e (rC_findParts) s m args below meth c H locs 0 0 (cQi below args s D dA o A (rC_findParts) post) (F0 m 7 ls [])) (hT29 : ∀ (x1 : Int32) (x2 : Int32) (x3 : Int32) (S : CS), T29 x1 x2 x3 S → ∀ (H : Heap) (locs : List Loc) (ls : Array Slot), lv_has ls 4 [(0, .ref (o 0)), (1, .int x1), (2, .int x2), (3, .int x3)] → cw D dA o A s S H locs → W p l e (rC_findParts) s m args below meth c H locs 0 0 (cQi below args s D dA o A (rC_findParts) post) (F0 m 29 ls [])) {x1 : Int32} {x2 : Int32} {x3 : Int32} {S : CS} (h : C_findParts_w29 post T7 T29 x1 x2 x3 S) {H : Heap} {locs : List Loc} {ls : Array Slot} (hl : lv_has ls 4 [(0, .ref (o 0)), (1, .int x1), (2, .int x2), (3, .int x3)]) (w : cw D dA o A s S H locs) : W p l e (rC_findParts) s m args below meth c H locs 0 0 (cQi below args s D dA o A (rC_findParts) post) (F0 m 29 ls []) := by
  unfold C_findParts_w29 at h
  obtain ⟨⟨hx, hb, hml, hown, hts⟩, hr, hlk, hA⟩ := id C
  refine lv_iload_n hx hb dX0_findParts_29 rfl (lv_at hl 3 rfl) ?_
  refine lv_iload_n hx hb dX0_findParts_30 rfl (lv_at hl 1 rfl) ?_
  obtain ⟨h1, h2⟩ := h
  refine lv_icmp_ge (tgt := 66) hx hb dX0_findParts_31 (by decide) (fun c1 => ?_) (fun c1 => ?_)
  · have h := h1 c1
    refine lv_iload_n hx hb dX0_findParts_66 rfl (lv_at hl 2 rfl) ?_
    exact cr_iret C w h (Nat.le_of_ble_eq_true rfl) (Nat.le_of_ble_eq_true rfl) dX0_findParts_67
  · have h := h2 c1
    refine lv_aload_n hx hb dX0_findParts_34 rfl (lv_at hl 0 rfl) ?_
    refine cr_get C w 0 rfl rfl in_X0 15 (by decide) q179 rfl rfl dX0_findParts_35 ?_
    refine lv_iload_n hx hb dX0_findParts_38 rfl (lv_at hl 3 rfl) ?_
    obtain ⟨hi, h⟩ := h
    refine cr_iald C w 10 rfl hi dX0_findParts_39 ?_
    refine lv_iconst (v := -1) hx hb dX0_findParts_40 (by decide) ?_
    obtain ⟨h1, h2⟩ := h
    refine lv_icmp_ne (tgt := 60) hx hb dX0_findParts_41 (by decide) (fun c1 => ?_) (fun c1 => ?_)
    · have h := h1 c1
      exact C_findParts_a60 C hT7 hT29 h (lv_sub hl [0, 1, 2, 3] rfl) w
    · have h := h2 c1
      refine lv_aload_n hx hb dX0_findParts_44 rfl (lv_at hl 0 rfl) ?_
      refine cr_get C w 0 rfl rfl in_X0 18 (by decide) q182 rfl rfl dX0_findParts_45 ?_
      refine lv_iload_n hx hb dX0_findParts_48 rfl (lv_at hl 2 rfl) ?_
      refine lv_iconst (v := 0) hx hb dX0_findParts_49 (by decide) ?_
      obtain ⟨hi, h⟩ := h
      refine cr_zast C w hi rfl dX0_findParts_50 (fun H locs w => ?_)
      refine lv_aload_n hx hb dX0_findParts_51 rfl (lv_at hl 0 rfl) ?_
      refine lv_iload_n hx hb dX0_findParts_52 rfl (lv_at hl 3 rfl) ?_
      refine lv_iload_n hx hb dX0_findParts_53 rfl (lv_at hl 2 rfl) ?_
      refine cr_callVV (rest := []) (b := (fun o => o 0)) C w h (recv0 w) (cwV 2 hts (lw_V q535 q537 qs28 q82 q538) rfl rfl rfl C_spread_d ⟨Nat.le_of_ble_eq_true rfl, Nat.le_of_ble_eq_true rfl⟩) rfl hl.1 rfl (Nat.le_of_ble_eq_true rfl) ⟨Nat.le_of_ble_eq_true rfl, Nat.le_of_ble_eq_true rfl⟩ dX0_findParts_54 (fun S2 H locs h w => ?_)
      refine lv_iinc (v := _ + (1 : Int32)) (lv' := [(2, .int _), (0, .ref _), (1, .int _), (3, .int _)]) hx hb dX0_findParts_57 hl (k := 2) rfl rfl (by decide) rfl (fun ls hl => ?_)
      exact C_findParts_a60 C hT7 hT29 h (lv_sub hl [1, 2, 0, 3] rfl) w
def C_findParts_w7 (post : Int32 → CS → Prop) (T7 : Int32 → Int32 → CS → Prop) (T29 : Int32 → Int32 → Int32 → CS → Prop) (x1 : Int32) (x2 : Int32) (S : CS) : Prop :=
  ((x1 ≤ x2 → T29 x1 (0 : Int32) (0 : Int32) S) ∧ (¬ x1 ≤ x2 → (vp_in x2 400 ∧ (fun (S1 : CS) => T7 x1 (x2 + (1 : Int32)) S1) (tI S 15 (x2).toNatClampNeg (-1 : Int32)))))
set_option maxHeartbeats 4000000 in
set_option maxRecDepth 100000 in
theorem C_findParts_a7 {p : Program} {l : Launch} {e : Env} {s : State} {m : MethodId} {args : Array Value} {below : List Frame} {meth : Method} {c : Code} {D : va_G} {dA : Nat → ClassId} {o : Nat → Nat} {A : Nat → Prop} {post : Int32 → CS → Prop} {T7 : Int32 → Int32 → CS → Prop} {T29 : Int32 → Int32 → Int32 → CS → Prop} (C : cC RX0 p m c cX0_findParts 4 s args meth (Option.some Jvm.ClassFile.FieldType.int) A) (hT7 : ∀ (x1 : Int32) (x2 : Int32) (S : CS), T7 x1 x2 S → ∀ (H : Heap) (locs : List Loc) (ls : Array Slot), lv_has ls 4 [(0, .ref (o 0)), (1, .int x1), (2, .int x2)] → cw D dA o A s S H locs → W p l e (rC_findParts) s m args below meth c H locs 0 0 (cQi below args s D dA o A (rC_findParts) post) (F0 m 7 ls [])) (hT29 : ∀ (x1 : Int32) (x2 : Int32) (x3 : Int32) (S : CS), T29 x1 x2 x3 S → ∀ (H : Heap) (locs : List Loc) (ls : Array Slot), lv_has ls 4 [(0, .ref (o 0)), (1, .int x1), (2, .int x2), (3, .int x3)] → cw D dA o A s S H locs → W p l e (rC_findParts) s m args below meth c H locs 0 0 (cQi below args s D dA o A (rC_findParts) post) (F0 m 29 ls [])) {x1 : Int32} {x2 : Int32} {S : CS} (h : C_findParts_w7 post T7 T29 x1 x2 S) {H : Heap} {locs : List Loc} {ls : Array Slot} (hl : lv_has ls 4 [(0, .ref (o 0)), (1, .int x1), (2, .int x2)]) (w : cw D dA o A s S H locs) : W p l e (rC_findParts) s m args below meth c H locs 0 0 (cQi below args s D dA o A (rC_findParts) post) (F0 m 7 ls []) := by
  unfold C_findParts_w7 at h
  obtain ⟨⟨hx, hb, hml, hown, hts⟩, hr, hlk, hA⟩ := id C
  refine lv_iload_n hx hb dX0_findParts_7 rfl (lv_at hl 2 rfl) ?_
  refine lv_iload_n hx hb dX0_findParts_8 rfl (lv_at hl 1 rfl) ?_
  obtain ⟨h1, h2⟩ := h
  refine lv_icmp_ge (tgt := 25) hx hb dX0_findParts_9 (by decide) (fun c1 => ?_) (fun c1 => ?_)
  · have h := h1 c1
    refine lv_iconst (v := 0) hx hb dX0_findParts_25 (by decide) ?_
    refine lv_istore_n (lv' := [(2, .int _), (0, .ref _), (1, .int _)]) hx hb dX0_findParts_26 rfl hl (by decide) rfl (fun ls hl => ?_)
    refine lv_iconst (v := 0) hx hb dX0_findParts_27 (by decide) ?_
    refine lv_istore_n (lv' := [(3, .int _), (2, .int _), (0, .ref _), (1, .int _)]) hx hb dX0_findParts_28 rfl hl (by decide) rfl (fun ls hl => ?_)
    exact hT29 _ _ _ _ h _ _ _ (lv_sub hl [2, 3, 1, 0] rfl) w
  · have h := h2 c1
    refine lv_aload_n hx hb dX0_findParts_12 rfl (lv_at hl 0 rfl) ?_
    refine cr_get C w 0 rfl rfl in_X0 15 (by decide) q179 rfl rfl dX0_findParts_13 ?_
    refine lv_iload_n hx hb dX0_findParts_16 rfl (lv_at hl 2 rfl) ?_
    refine lv_iconst (v := -1) hx hb dX0_findParts_17 (by decide) ?_
    obtain ⟨hi, h⟩ := h
    refine cr_iast C w 10 rfl hi CWs_15 dX0_findParts_18 (fun H locs w => ?_)
    refine lv_iinc (v := _ + (1 : Int32)) (lv' := [(2, .int _), (0, .ref _), (1, .int _)]) hx hb dX0_findParts_19 hl (k := 2) rfl rfl (by decide) rfl (fun ls hl => ?_)
    refine lv_goto (tgt := 7) hx hb dX0_findParts_22 (by decide) ?_
    exact hT7 _ _ _ h _ _ _ (lv_sub hl [1, 2, 0] rfl) w
def C_findParts_w0 (post : Int32 → CS → Prop) (T7 : Int32 → Int32 → CS → Prop) (T29 : Int32 → Int32 → Int32 → CS → Prop) (S : CS) : Prop :=
  C_allCuts S (fun (r1 : Int32) (S1 : CS) => T7 r1 (0 : Int32) S1)
set_option maxHeartbeats 4000000 in
set_option maxRecDepth 100000 in
theorem C_findParts_a0 {p : Program} {l : Launch} {e : Env} {s : State} {m : MethodId} {args : Array Value} {below : List Frame} {meth : Method} {c : Code} {D : va_G} {dA : Nat → ClassId} {o : Nat → Nat} {A : Nat → Prop} {post : Int32 → CS → Prop} {T7 : Int32 → Int32 → CS → Prop} {T29 : Int32 → Int32 → Int32 → CS → Prop} (C : cC RX0 p m c cX0_findParts 4 s args meth (Option.some Jvm.ClassFile.FieldType.int) A) (hT7 : ∀ (x1 : Int32) (x2 : Int32) (S : CS), T7 x1 x2 S → ∀ (H : Heap) (locs : List Loc) (ls : Array Slot), lv_has ls 4 [(0, .ref (o 0)), (1, .int x1), (2, .int x2)] → cw D dA o A s S H locs → W p l e (rC_findParts) s m args below meth c H locs 0 0 (cQi below args s D dA o A (rC_findParts) post) (F0 m 7 ls [])) (hT29 : ∀ (x1 : Int32) (x2 : Int32) (x3 : Int32) (S : CS), T29 x1 x2 x3 S → ∀ (H : Heap) (locs : List Loc) (ls : Array Slot), lv_has ls 4 [(0, .ref (o 0)), (1, .int x1), (2, .int x2), (3, .int x3)] → cw D dA o A s S H locs → W p l e (rC_findParts) s m args below meth c H locs 0 0 (cQi below args s D dA o A (rC_findParts) post) (F0 m 29 ls [])) {S : CS} (h : C_findParts_w0 post T7 T29 S) {H : Heap} {locs : List Loc} {ls : Array Slot} (hl : lv_has ls 4 [(0, .ref (o 0))]) (w : cw D dA o A s S H locs) : W p l e (rC_findParts) s m args below meth c H locs 0 0 (cQi below args s D dA o A (rC_findParts) post) (F0 m 0 ls []) := by
  unfold C_findParts_w0 at h
  obtain ⟨⟨hx, hb, hml, hown, hts⟩, hr, hlk, hA⟩ := id C
  refine lv_aload_n hx hb dX0_findParts_0 rfl (lv_at hl 0 rfl) ?_
  refine cr_callVI (rest := []) (b := (fun o => o 0)) C w h (recv0 w) (cwV 0 hts (lw_V q527 q529 qs26 q82 q530) rfl rfl rfl C_allCuts_d ⟨Nat.le_of_ble_eq_true rfl, Nat.le_of_ble_eq_true rfl⟩) rfl hl.1 rfl (Nat.le_of_ble_eq_true rfl) ⟨Nat.le_of_ble_eq_true rfl, Nat.le_of_ble_eq_true rfl⟩ dX0_findParts_1 (fun r1 S1 H locs h w => ?_)
  refine lv_istore_n (lv' := [(1, .int _), (0, .ref _)]) hx hb dX0_findParts_4 rfl hl (by decide) rfl (fun ls hl => ?_)
  refine lv_iconst (v := 0) hx hb dX0_findParts_5 (by decide) ?_
  refine lv_istore_n (lv' := [(2, .int _), (1, .int _), (0, .ref _)]) hx hb dX0_findParts_6 rfl hl (by decide) rfl (fun ls hl => ?_)
  exact hT7 _ _ _ h _ _ _ (lv_sub hl [2, 1, 0] rfl) w
def C_findParts_VC (S : CS) (post : Int32 → CS → Prop) : Prop := ∀ (T7 : Int32 → Int32 → CS → Prop) (T29 : Int32 → Int32 → Int32 → CS → Prop), (∀ (x1 : Int32) (x2 : Int32) (S : CS), C_findParts_w7 post T7 T29 x1 x2 S → T7 x1 x2 S) → (∀ (x1 : Int32) (x2 : Int32) (x3 : Int32) (S : CS), C_findParts_w29 post T7 T29 x1 x2 x3 S → T29 x1 x2 x3 S) → C_findParts_w0 post T7 T29 S
theorem C_findParts_ok {S : CS} {post : Int32 → CS → Prop} (h : C_findParts_VC S post) : C_findParts S post := by
  intro l D dA o sz
  refine cr_start (fun A => va_Qi post (cB D dA o A) A) rfl (Nat.le_of_ble_eq_true rfl) (by decide) ?_
  intro p e s m args below meth c ls A C w hl
  have hl : lv_has ls 4 [(0, .ref (o 0))] := hl
  have h := h (fun (x1 : Int32) (x2 : Int32) S => ∀ (H : Heap) (locs : List Loc) (ls : Array Slot), lv_has ls 4 [(0, .ref (o 0)), (1, .int x1), (2, .int x2)] → cw D dA o A s S H locs → W p l e (rC_findParts) s m args below meth c H locs 0 0 (cQi below args s D dA o A (rC_findParts) post) (F0 m 7 ls [])) (fun (x1 : Int32) (x2 : Int32) (x3 : Int32) S => ∀ (H : Heap) (locs : List Loc) (ls : Array Slot), lv_has ls 4 [(0, .ref (o 0)), (1, .int x1), (2, .int x2), (3, .int x3)] → cw D dA o A s S H locs → W p l e (rC_findParts) s m args below meth c H locs 0 0 (cQi below args s D dA o A (rC_findParts) post) (F0 m 29 ls [])) (fun _ _ S h H locs ls hl w => C_findParts_a7 C (fun _ _ _ h => h) (fun _ _ _ _ h => h) h hl w) (fun _ _ _ S h H locs ls hl w => C_findParts_a29 C (fun _ _ _ h => h) (fun _ _ _ _ h => h) h hl w)
  exact C_findParts_a0 C (fun _ _ _ h => h) (fun _ _ _ _ h => h) h (lv_sub hl [0] rfl) w

/-! ThirdSheets.parts()I -/
def C_parts_w29 (post : Int32 → CS → Prop) (v0 : Int32) (S : CS) : Prop :=
  post v0 S
set_option maxHeartbeats 4000000 in
set_option maxRecDepth 100000 in
theorem C_parts_a29 {p : Program} {l : Launch} {e : Env} {s : State} {m : MethodId} {args : Array Value} {below : List Frame} {meth : Method} {c : Code} {D : va_G} {dA : Nat → ClassId} {o : Nat → Nat} {A : Nat → Prop} {post : Int32 → CS → Prop} (C : cC RX0 p m c cX0_parts 1 s args meth (Option.some Jvm.ClassFile.FieldType.int) A) {v0 : Int32} {S : CS} (h : C_parts_w29 post v0 S) {H : Heap} {locs : List Loc} {ls : Array Slot} (hl : lv_has ls 1 [(0, .ref (o 0))]) (w : cw D dA o A s S H locs) : W p l e (rC_parts) s m args below meth c H locs 0 0 (cQi below args s D dA o A (rC_parts) post) (F0 m 29 ls [.int v0]) := by
  unfold C_parts_w29 at h
  obtain ⟨⟨hx, hb, hml, hown, hts⟩, hr, hlk, hA⟩ := id C
  exact cr_iret C w h (Nat.le_of_ble_eq_true rfl) (Nat.le_of_ble_eq_true rfl) dX0_parts_29
def C_parts_w0 (post : Int32 → CS → Prop) (S : CS) : Prop :=
  C_legal S (fun (r1 : Int32) (S1 : CS) => ((r1 = 0 → C_allCuts S1 (fun (r2 : Int32) (S2 : CS) => ((r2 ≤ (400 : Int32) → C_findParts S2 (fun (r3 : Int32) (S3 : CS) => C_parts_w29 post r3 S3)) ∧ (¬ r2 ≤ (400 : Int32) → C_parts_w29 post (-4 : Int32) S2)))) ∧ (¬ r1 = 0 → post (-3 : Int32) S1)))
set_option maxHeartbeats 4000000 in
set_option maxRecDepth 100000 in
theorem C_parts_a0 {p : Program} {l : Launch} {e : Env} {s : State} {m : MethodId} {args : Array Value} {below : List Frame} {meth : Method} {c : Code} {D : va_G} {dA : Nat → ClassId} {o : Nat → Nat} {A : Nat → Prop} {post : Int32 → CS → Prop} (C : cC RX0 p m c cX0_parts 1 s args meth (Option.some Jvm.ClassFile.FieldType.int) A) {S : CS} (h : C_parts_w0 post S) {H : Heap} {locs : List Loc} {ls : Array Slot} (hl : lv_has ls 1 [(0, .ref (o 0))]) (w : cw D dA o A s S H locs) : W p l e (rC_parts) s m args below meth c H locs 0 0 (cQi below args s D dA o A (rC_parts) post) (F0 m 0 ls []) := by
  unfold C_parts_w0 at h
  obtain ⟨⟨hx, hb, hml, hown, hts⟩, hr, hlk, hA⟩ := id C
  refine lv_aload_n hx hb dX0_parts_0 rfl (lv_at hl 0 rfl) ?_
  refine cr_callVI (rest := []) (b := (fun o => o 0)) C w h (recv0 w) (cwV 0 hts (lw_V q518 q499 q500 q82 q501) rfl rfl rfl C_legal_d ⟨Nat.le_of_ble_eq_true rfl, Nat.le_of_ble_eq_true rfl⟩) rfl hl.1 rfl (Nat.le_of_ble_eq_true rfl) ⟨Nat.le_of_ble_eq_true rfl, Nat.le_of_ble_eq_true rfl⟩ dX0_parts_1 (fun r1 S1 H locs h w => ?_)
  obtain ⟨h1, h2⟩ := h
  refine lv_if_eq (tgt := 10) hx hb dX0_parts_4 (by decide) (fun c1 => ?_) (fun c1 => ?_)
  · have h := h1 c1
    refine lv_aload_n hx hb dX0_parts_10 rfl (lv_at hl 0 rfl) ?_
    refine cr_callVI (rest := []) (b := (fun o => o 0)) C w h (recv0 w) (cwV 0 hts (lw_V q527 q529 qs26 q82 q530) rfl rfl rfl C_allCuts_d ⟨Nat.le_of_ble_eq_true rfl, Nat.le_of_ble_eq_true rfl⟩) rfl hl.1 rfl (Nat.le_of_ble_eq_true rfl) ⟨Nat.le_of_ble_eq_true rfl, Nat.le_of_ble_eq_true rfl⟩ dX0_parts_11 (fun r2 S2 H locs h w => ?_)
    refine lv_sipush (v := 400) hx hb dX0_parts_14 (by decide) ?_
    obtain ⟨h1, h2⟩ := h
    refine lv_icmp_le (tgt := 25) hx hb dX0_parts_17 (by decide) (fun c1 => ?_) (fun c1 => ?_)
    · have h := h1 c1
      refine lv_aload_n hx hb dX0_parts_25 rfl (lv_at hl 0 rfl) ?_
      refine cr_callVI (rest := []) (b := (fun o => o 0)) C w h (recv0 w) (cwV 0 hts (lw_V q531 q533 qs27 q82 q534) rfl rfl rfl C_findParts_d ⟨Nat.le_of_ble_eq_true rfl, Nat.le_of_ble_eq_true rfl⟩) rfl hl.1 rfl (Nat.le_of_ble_eq_true rfl) ⟨Nat.le_of_ble_eq_true rfl, Nat.le_of_ble_eq_true rfl⟩ dX0_parts_26 (fun r3 S3 H locs h w => ?_)
      exact C_parts_a29 C h (lv_sub hl [0] rfl) w
    · have h := h2 c1
      refine lv_bipush (v := -4) hx hb dX0_parts_20 (by decide) ?_
      refine lv_goto (tgt := 29) hx hb dX0_parts_22 (by decide) ?_
      exact C_parts_a29 C h (lv_sub hl [0] rfl) w
  · have h := h2 c1
    refine lv_bipush (v := -3) hx hb dX0_parts_7 (by decide) ?_
    exact cr_iret C w h (Nat.le_of_ble_eq_true rfl) (Nat.le_of_ble_eq_true rfl) dX0_parts_9
def C_parts_VC (S : CS) (post : Int32 → CS → Prop) : Prop := C_parts_w0 post S
theorem C_parts_ok {S : CS} {post : Int32 → CS → Prop} (h : C_parts_VC S post) : C_parts S post := by
  intro l D dA o sz
  refine cr_start (fun A => va_Qi post (cB D dA o A) A) rfl (Nat.le_of_ble_eq_true rfl) (by decide) ?_
  intro p e s m args below meth c ls A C w hl
  have hl : lv_has ls 1 [(0, .ref (o 0))] := hl
  exact C_parts_a0 C h (lv_sub hl [0] rfl) w

/-! ThirdSheets.pointsOf(I)I -/
def C_pointsOf_w183 (post : Int32 → CS → Prop) (T13 : Int32 → Int32 → Int32 → Int32 → CS → Prop) (T62 : Int32 → Int32 → Int32 → Int32 → Int32 → Int32 → Int32 → Int32 → CS → Prop) (T133 : Int32 → Int32 → Int32 → Int32 → Int32 → Int32 → Int32 → Int32 → Int32 → Int32 → CS → Prop) (x1 : Int32) (x2 : Int32) (x3 : Int32) (x4 : Int32) (x6 : Int32) (x7 : Int32) (x8 : Int32) (x9 : Int32) (S : CS) : Prop :=
  T62 x1 x2 x3 x4 x6 x7 x8 (x9 + (1 : Int32)) S
set_option maxHeartbeats 4000000 in
set_option maxRecDepth 100000 in
theorem C_pointsOf_a183 {p : Program} {l : Launch} {e : Env} {s : State} {m : MethodId} {args : Array Value} {below : List Frame} {meth : Method} {c : Code} {D : va_G} {dA : Nat → ClassId} {o : Nat → Nat} {A : Nat → Prop} {post : Int32 → CS → Prop} {T13 : Int32 → Int32 → Int32 → Int32 → CS → Prop} {T62 : Int32 → Int32 → Int32 → Int32 → Int32 → Int32 → Int32 → Int32 → CS → Prop} {T133 : Int32 → Int32 → Int32 → Int32 → Int32 → Int32 → Int32 → Int32 → Int32 → Int32 → CS → Prop} (C : cC RX0 p m c cX0_pointsOf 12 s args meth (Option.some Jvm.ClassFile.FieldType.int) A) (hT13 : ∀ (x1 : Int32) (x2 : Int32) (x3 : Int32) (x4 : Int32) (S : CS), T13 x1 x2 x3 x4 S → ∀ (H : Heap) (locs : List Loc) (ls : Array Slot), lv_has ls 12 [(0, .ref (o 0)), (1, .int x1), (2, .int x2), (3, .int x3), (4, .int x4)] → cw D dA o A s S H locs → W p l e (rC_pointsOf) s m args below meth c H locs 0 0 (cQi below args s D dA o A (rC_pointsOf) post) (F0 m 13 ls [])) (hT62 : ∀ (x1 : Int32) (x2 : Int32) (x3 : Int32) (x4 : Int32) (x6 : Int32) (x7 : Int32) (x8 : Int32) (x9 : Int32) (S : CS), T62 x1 x2 x3 x4 x6 x7 x8 x9 S → ∀ (H : Heap) (locs : List Loc) (ls : Array Slot), lv_has ls 12 [(0, .ref (o 0)), (1, .int x1), (2, .int x2), (3, .int x3), (4, .int x4), (6, .int x6), (7, .int x7), (8, .int x8), (9, .int x9)] → cw D dA o A s S H locs → W p l e (rC_pointsOf) s m args below meth c H locs 0 0 (cQi below args s D dA o A (rC_pointsOf) post) (F0 m 62 ls [])) (hT133 : ∀ (x1 : Int32) (x2 : Int32) (x3 : Int32) (x4 : Int32) (x6 : Int32) (x7 : Int32) (x8 : Int32) (x9 : Int32) (x10 : Int32) (x11 : Int32) (S : CS), T133 x1 x2 x3 x4 x6 x7 x8 x9 x10 x11 S → ∀ (H : Heap) (locs : List Loc) (ls : Array Slot), lv_has ls 12 [(0, .ref (o 0)), (1, .int x1), (2, .int x2), (3, .int x3), (4, .int x4), (6, .int x6), (7, .int x7), (8, .int x8), (9, .int x9), (10, .int x10), (11, .int x11)] → cw D dA o A s S H locs → W p l e (rC_pointsOf) s m args below meth c H locs 0 0 (cQi below args s D dA o A (rC_pointsOf) post) (F0 m 133 ls [])) {x1 : Int32} {x2 : Int32} {x3 : Int32} {x4 : Int32} {x6 : Int32} {x7 : Int32} {x8 : Int32} {x9 : Int32} {S : CS} (h : C_pointsOf_w183 post T13 T62 T133 x1 x2 x3 x4 x6 x7 x8 x9 S) {H : Heap} {locs : List Loc} {ls : Array Slot} (hl : lv_has ls 12 [(0, .ref (o 0)), (1, .int x1), (2, .int x2), (3, .int x3), (4, .int x4), (6, .int x6), (7, .int x7), (8, .int x8), (9, .int x9)]) (w : cw D dA o A s S H locs) : W p l e (rC_pointsOf) s m args below meth c H locs 0 0 (cQi below args s D dA o A (rC_pointsOf) post) (F0 m 183 ls []) := by
  unfold C_pointsOf_w183 at h
  obtain ⟨⟨hx, hb, hml, hown, hts⟩, hr, hlk, hA⟩ := id C
  refine lv_iinc (v := _ + (1 : Int32)) (lv' := [(9, .int _), (0, .ref _), (1, .int _), (2, .int _), (3, .int _), (4, .int _), (6, .int _), (7, .int _), (8, .int _)]) hx hb dX0_pointsOf_183 hl (k := 8) rfl rfl (by decide) rfl (fun ls hl => ?_)
  refine lv_goto (tgt := 62) hx hb dX0_pointsOf_186 (by decide) ?_
  exact hT62 _ _ _ _ _ _ _ _ _ h _ _ _ (lv_sub hl [1, 2, 3, 4, 5, 6, 7, 8, 0] rfl) w
def C_pointsOf_w175 (post : Int32 → CS → Prop) (T13 : Int32 → Int32 → Int32 → Int32 → CS → Prop) (T62 : Int32 → Int32 → Int32 → Int32 → Int32 → Int32 → Int32 → Int32 → CS → Prop) (T133 : Int32 → Int32 → Int32 → Int32 → Int32 → Int32 → Int32 → Int32 → Int32 → Int32 → CS → Prop) (v0 : Int32) (v1 : Int32) (x1 : Int32) (x3 : Int32) (x4 : Int32) (x6 : Int32) (x7 : Int32) (x8 : Int32) (x9 : Int32) (x10 : Int32) (x11 : Int32) (S : CS) : Prop :=
  T133 x1 (v1 + v0) x3 x4 x6 x7 x8 x9 x10 (x11 + (1 : Int32)) S
set_option maxHeartbeats 4000000 in
set_option maxRecDepth 100000 in
theorem C_pointsOf_a175 {p : Program} {l : Launch} {e : Env} {s : State} {m : MethodId} {args : Array Value} {below : List Frame} {meth : Method} {c : Code} {D : va_G} {dA : Nat → ClassId} {o : Nat → Nat} {A : Nat → Prop} {post : Int32 → CS → Prop} {T13 : Int32 → Int32 → Int32 → Int32 → CS → Prop} {T62 : Int32 → Int32 → Int32 → Int32 → Int32 → Int32 → Int32 → Int32 → CS → Prop} {T133 : Int32 → Int32 → Int32 → Int32 → Int32 → Int32 → Int32 → Int32 → Int32 → Int32 → CS → Prop} (C : cC RX0 p m c cX0_pointsOf 12 s args meth (Option.some Jvm.ClassFile.FieldType.int) A) (hT13 : ∀ (x1 : Int32) (x2 : Int32) (x3 : Int32) (x4 : Int32) (S : CS), T13 x1 x2 x3 x4 S → ∀ (H : Heap) (locs : List Loc) (ls : Array Slot), lv_has ls 12 [(0, .ref (o 0)), (1, .int x1), (2, .int x2), (3, .int x3), (4, .int x4)] → cw D dA o A s S H locs → W p l e (rC_pointsOf) s m args below meth c H locs 0 0 (cQi below args s D dA o A (rC_pointsOf) post) (F0 m 13 ls [])) (hT62 : ∀ (x1 : Int32) (x2 : Int32) (x3 : Int32) (x4 : Int32) (x6 : Int32) (x7 : Int32) (x8 : Int32) (x9 : Int32) (S : CS), T62 x1 x2 x3 x4 x6 x7 x8 x9 S → ∀ (H : Heap) (locs : List Loc) (ls : Array Slot), lv_has ls 12 [(0, .ref (o 0)), (1, .int x1), (2, .int x2), (3, .int x3), (4, .int x4), (6, .int x6), (7, .int x7), (8, .int x8), (9, .int x9)] → cw D dA o A s S H locs → W p l e (rC_pointsOf) s m args below meth c H locs 0 0 (cQi below args s D dA o A (rC_pointsOf) post) (F0 m 62 ls [])) (hT133 : ∀ (x1 : Int32) (x2 : Int32) (x3 : Int32) (x4 : Int32) (x6 : Int32) (x7 : Int32) (x8 : Int32) (x9 : Int32) (x10 : Int32) (x11 : Int32) (S : CS), T133 x1 x2 x3 x4 x6 x7 x8 x9 x10 x11 S → ∀ (H : Heap) (locs : List Loc) (ls : Array Slot), lv_has ls 12 [(0, .ref (o 0)), (1, .int x1), (2, .int x2), (3, .int x3), (4, .int x4), (6, .int x6), (7, .int x7), (8, .int x8), (9, .int x9), (10, .int x10), (11, .int x11)] → cw D dA o A s S H locs → W p l e (rC_pointsOf) s m args below meth c H locs 0 0 (cQi below args s D dA o A (rC_pointsOf) post) (F0 m 133 ls [])) {v0 : Int32} {v1 : Int32} {x1 : Int32} {x3 : Int32} {x4 : Int32} {x6 : Int32} {x7 : Int32} {x8 : Int32} {x9 : Int32} {x10 : Int32} {x11 : Int32} {S : CS} (h : C_pointsOf_w175 post T13 T62 T133 v0 v1 x1 x3 x4 x6 x7 x8 x9 x10 x11 S) {H : Heap} {locs : List Loc} {ls : Array Slot} (hl : lv_has ls 12 [(0, .ref (o 0)), (1, .int x1), (3, .int x3), (4, .int x4), (6, .int x6), (7, .int x7), (8, .int x8), (9, .int x9), (10, .int x10), (11, .int x11)]) (w : cw D dA o A s S H locs) : W p l e (rC_pointsOf) s m args below meth c H locs 0 0 (cQi below args s D dA o A (rC_pointsOf) post) (F0 m 175 ls [.int v0, .int v1]) := by
  unfold C_pointsOf_w175 at h
  obtain ⟨⟨hx, hb, hml, hown, hts⟩, hr, hlk, hA⟩ := id C
  refine lv_iadd hx hb dX0_pointsOf_175 ?_
  refine lv_istore_n (lv' := [(2, .int _), (0, .ref _), (1, .int _), (3, .int _), (4, .int _), (6, .int _), (7, .int _), (8, .int _), (9, .int _), (10, .int _), (11, .int _)]) hx hb dX0_pointsOf_176 rfl hl (by decide) rfl (fun ls hl => ?_)
  refine lv_iinc (v := _ + (1 : Int32)) (lv' := [(11, .int _), (2, .int _), (0, .ref _), (1, .int _), (3, .int _), (4, .int _), (6, .int _), (7, .int _), (8, .int _), (9, .int _), (10, .int _)]) hx hb dX0_pointsOf_177 hl (k := 10) rfl rfl (by decide) rfl (fun ls hl => ?_)
  refine lv_goto (tgt := 133) hx hb dX0_pointsOf_180 (by decide) ?_
  exact hT133 _ _ _ _ _ _ _ _ _ _ _ h _ _ _ (lv_sub hl [2, 3, 1, 4, 5, 6, 7, 8, 9, 10, 0] rfl) w
def C_pointsOf_w133 (post : Int32 → CS → Prop) (T13 : Int32 → Int32 → Int32 → Int32 → CS → Prop) (T62 : Int32 → Int32 → Int32 → Int32 → Int32 → Int32 → Int32 → Int32 → CS → Prop) (T133 : Int32 → Int32 → Int32 → Int32 → Int32 → Int32 → Int32 → Int32 → Int32 → Int32 → CS → Prop) (x1 : Int32) (x2 : Int32) (x3 : Int32) (x4 : Int32) (x6 : Int32) (x7 : Int32) (x8 : Int32) (x9 : Int32) (x10 : Int32) (x11 : Int32) (S : CS) : Prop :=
  (vp_in ((((7 : Int32) * x6) + x9) + (1 : Int32)) 22 ∧ (((kI S 14 (((((7 : Int32) * x6) + x9) + (1 : Int32))).toNatClampNeg) ≤ x11 → C_pointsOf_w183 post T13 T62 T133 x1 x2 x3 x4 x6 x7 x8 x9 S) ∧ (¬ (kI S 14 (((((7 : Int32) * x6) + x9) + (1 : Int32))).toNatClampNeg) ≤ x11 → ((x10 = 0 → C_pointsOf_w183 post T13 T62 T133 x1 x2 x3 x4 x6 x7 x8 x9 S) ∧ (¬ x10 = 0 → (vp_in x11 400 ∧ ((¬ (kI S 15 (x11).toNatClampNeg) = x1 → C_pointsOf_w175 post T13 T62 T133 (0 : Int32) x2 x1 x3 x4 x6 x7 x8 x9 x10 x11 S) ∧ ((kI S 15 (x11).toNatClampNeg) = x1 → C_pointsOf_w175 post T13 T62 T133 (1 : Int32) x2 x1 x3 x4 x6 x7 x8 x9 x10 x11 S))))))))
set_option maxHeartbeats 4000000 in
set_option maxRecDepth 100000 in
theorem C_pointsOf_a133 {p : Program} {l : Launch} {e : Env} {s : State} {m : MethodId} {args : Array Value} {below : List Frame} {meth : Method} {c : Code} {D : va_G} {dA : Nat → ClassId} {o : Nat → Nat} {A : Nat → Prop} {post : Int32 → CS → Prop} {T13 : Int32 → Int32 → Int32 → Int32 → CS → Prop} {T62 : Int32 → Int32 → Int32 → Int32 → Int32 → Int32 → Int32 → Int32 → CS → Prop} {T133 : Int32 → Int32 → Int32 → Int32 → Int32 → Int32 → Int32 → Int32 → Int32 → Int32 → CS → Prop} (C : cC RX0 p m c cX0_pointsOf 12 s args meth (Option.some Jvm.ClassFile.FieldType.int) A) (hT13 : ∀ (x1 : Int32) (x2 : Int32) (x3 : Int32) (x4 : Int32) (S : CS), T13 x1 x2 x3 x4 S → ∀ (H : Heap) (locs : List Loc) (ls : Array Slot), lv_has ls 12 [(0, .ref (o 0)), (1, .int x1), (2, .int x2), (3, .int x3), (4, .int x4)] → cw D dA o A s S H locs → W p l e (rC_pointsOf) s m args below meth c H locs 0 0 (cQi below args s D dA o A (rC_pointsOf) post) (F0 m 13 ls [])) (hT62 : ∀ (x1 : Int32) (x2 : Int32) (x3 : Int32) (x4 : Int32) (x6 : Int32) (x7 : Int32) (x8 : Int32) (x9 : Int32) (S : CS), T62 x1 x2 x3 x4 x6 x7 x8 x9 S → ∀ (H : Heap) (locs : List Loc) (ls : Array Slot), lv_has ls 12 [(0, .ref (o 0)), (1, .int x1), (2, .int x2), (3, .int x3), (4, .int x4), (6, .int x6), (7, .int x7), (8, .int x8), (9, .int x9)] → cw D dA o A s S H locs → W p l e (rC_pointsOf) s m args below meth c H locs 0 0 (cQi below args s D dA o A (rC_pointsOf) post) (F0 m 62 ls [])) (hT133 : ∀ (x1 : Int32) (x2 : Int32) (x3 : Int32) (x4 : Int32) (x6 : Int32) (x7 : Int32) (x8 : Int32) (x9 : Int32) (x10 : Int32) (x11 : Int32) (S : CS), T133 x1 x2 x3 x4 x6 x7 x8 x9 x10 x11 S → ∀ (H : Heap) (locs : List Loc) (ls : Array Slot), lv_has ls 12 [(0, .ref (o 0)), (1, .int x1), (2, .int x2), (3, .int x3), (4, .int x4), (6, .int x6), (7, .int x7), (8, .int x8), (9, .int x9), (10, .int x10), (11, .int x11)] → cw D dA o A s S H locs → W p l e (rC_pointsOf) s m args below meth c H locs 0 0 (cQi below args s D dA o A (rC_pointsOf) post) (F0 m 133 ls [])) {x1 : Int32} {x2 : Int32} {x3 : Int32} {x4 : Int32} {x6 : Int32} {x7 : Int32} {x8 : Int32} {x9 : Int32} {x10 : Int32} {x11 : Int32} {S : CS} (h : C_pointsOf_w133 post T13 T62 T133 x1 x2 x3 x4 x6 x7 x8 x9 x10 x11 S) {H : Heap} {locs : List Loc} {ls : Array Slot} (hl : lv_has ls 12 [(0, .ref (o 0)), (1, .int x1), (2, .int x2), (3, .int x3), (4, .int x4), (6, .int x6), (7, .int x7), (8, .int x8), (9, .int x9), (10, .int x10), (11, .int x11)]) (w : cw D dA o A s S H locs) : W p l e (rC_pointsOf) s m args below meth c H locs 0 0 (cQi below args s D dA o A (rC_pointsOf) post) (F0 m 133 ls []) := by
  unfold C_pointsOf_w133 at h
  obtain ⟨⟨hx, hb, hml, hown, hts⟩, hr, hlk, hA⟩ := id C
  refine lv_iload hx hb dX0_pointsOf_133 (lv_at hl 10 rfl) ?_
  refine lv_aload_n hx hb dX0_pointsOf_135 rfl (lv_at hl 0 rfl) ?_
  refine cr_get C w 0 rfl rfl in_X0 14 (by decide) q178 rfl rfl dX0_pointsOf_136 ?_
  refine lv_bipush (v := 7) hx hb dX0_pointsOf_139 (by decide) ?_
  refine lv_iload hx hb dX0_pointsOf_141 (lv_at hl 5 rfl) ?_
  refine lv_imul hx hb dX0_pointsOf_143 ?_
  refine lv_iload hx hb dX0_pointsOf_144 (lv_at hl 8 rfl) ?_
  refine lv_iadd hx hb dX0_pointsOf_146 ?_
  refine lv_iconst (v := 1) hx hb dX0_pointsOf_147 (by decide) ?_
  refine lv_iadd hx hb dX0_pointsOf_148 ?_
  obtain ⟨hi, h⟩ := h
  refine cr_iald C w 9 rfl hi dX0_pointsOf_149 ?_
  obtain ⟨h1, h2⟩ := h
  refine lv_icmp_ge (tgt := 183) hx hb dX0_pointsOf_150 (by decide) (fun c1 => ?_) (fun c1 => ?_)
  · have h := h1 c1
    exact C_pointsOf_a183 C hT13 hT62 hT133 h (lv_sub hl [0, 1, 2, 3, 4, 5, 6, 7, 8] rfl) w
  · have h := h2 c1
    refine lv_iload hx hb dX0_pointsOf_153 (lv_at hl 9 rfl) ?_
    obtain ⟨h1, h2⟩ := h
    refine lv_if_eq (tgt := 183) hx hb dX0_pointsOf_155 (by decide) (fun c1 => ?_) (fun c1 => ?_)
    · have h := h1 c1
      exact C_pointsOf_a183 C hT13 hT62 hT133 h (lv_sub hl [0, 1, 2, 3, 4, 5, 6, 7, 8] rfl) w
    · have h := h2 c1
      refine lv_iload_n hx hb dX0_pointsOf_158 rfl (lv_at hl 2 rfl) ?_
      refine lv_aload_n hx hb dX0_pointsOf_159 rfl (lv_at hl 0 rfl) ?_
      refine cr_get C w 0 rfl rfl in_X0 15 (by decide) q179 rfl rfl dX0_pointsOf_160 ?_
      refine lv_iload hx hb dX0_pointsOf_163 (lv_at hl 10 rfl) ?_
      obtain ⟨hi, h⟩ := h
      refine cr_iald C w 10 rfl hi dX0_pointsOf_165 ?_
      refine lv_iload_n hx hb dX0_pointsOf_166 rfl (lv_at hl 1 rfl) ?_
      obtain ⟨h1, h2⟩ := h
      refine lv_icmp_ne (tgt := 174) hx hb dX0_pointsOf_167 (by decide) (fun c1 => ?_) (fun c1 => ?_)
      · have h := h1 c1
        refine lv_iconst (v := 0) hx hb dX0_pointsOf_174 (by decide) ?_
        exact C_pointsOf_a175 C hT13 hT62 hT133 h (lv_sub hl [0, 1, 3, 4, 5, 6, 7, 8, 9, 10] rfl) w
      · have h := h2 c1
        refine lv_iconst (v := 1) hx hb dX0_pointsOf_170 (by decide) ?_
        refine lv_goto (tgt := 175) hx hb dX0_pointsOf_171 (by decide) ?_
        exact C_pointsOf_a175 C hT13 hT62 hT133 h (lv_sub hl [0, 1, 3, 4, 5, 6, 7, 8, 9, 10] rfl) w
def C_pointsOf_w116 (post : Int32 → CS → Prop) (T13 : Int32 → Int32 → Int32 → Int32 → CS → Prop) (T62 : Int32 → Int32 → Int32 → Int32 → Int32 → Int32 → Int32 → Int32 → CS → Prop) (T133 : Int32 → Int32 → Int32 → Int32 → Int32 → Int32 → Int32 → Int32 → Int32 → Int32 → CS → Prop) (v0 : Int32) (x1 : Int32) (x2 : Int32) (x3 : Int32) (x4 : Int32) (x6 : Int32) (x7 : Int32) (x8 : Int32) (x9 : Int32) (S : CS) : Prop :=
  (vp_in (((7 : Int32) * x6) + x9) 22 ∧ T133 x1 x2 x3 x4 x6 x7 x8 x9 v0 (kI S 14 ((((7 : Int32) * x6) + x9)).toNatClampNeg) S)
set_option maxHeartbeats 4000000 in
set_option maxRecDepth 100000 in
theorem C_pointsOf_a116 {p : Program} {l : Launch} {e : Env} {s : State} {m : MethodId} {args : Array Value} {below : List Frame} {meth : Method} {c : Code} {D : va_G} {dA : Nat → ClassId} {o : Nat → Nat} {A : Nat → Prop} {post : Int32 → CS → Prop} {T13 : Int32 → Int32 → Int32 → Int32 → CS → Prop} {T62 : Int32 → Int32 → Int32 → Int32 → Int32 → Int32 → Int32 → Int32 → CS → Prop} {T133 : Int32 → Int32 → Int32 → Int32 → Int32 → Int32 → Int32 → Int32 → Int32 → Int32 → CS → Prop} (C : cC RX0 p m c cX0_pointsOf 12 s args meth (Option.some Jvm.ClassFile.FieldType.int) A) (hT13 : ∀ (x1 : Int32) (x2 : Int32) (x3 : Int32) (x4 : Int32) (S : CS), T13 x1 x2 x3 x4 S → ∀ (H : Heap) (locs : List Loc) (ls : Array Slot), lv_has ls 12 [(0, .ref (o 0)), (1, .int x1), (2, .int x2), (3, .int x3), (4, .int x4)] → cw D dA o A s S H locs → W p l e (rC_pointsOf) s m args below meth c H locs 0 0 (cQi below args s D dA o A (rC_pointsOf) post) (F0 m 13 ls [])) (hT62 : ∀ (x1 : Int32) (x2 : Int32) (x3 : Int32) (x4 : Int32) (x6 : Int32) (x7 : Int32) (x8 : Int32) (x9 : Int32) (S : CS), T62 x1 x2 x3 x4 x6 x7 x8 x9 S → ∀ (H : Heap) (locs : List Loc) (ls : Array Slot), lv_has ls 12 [(0, .ref (o 0)), (1, .int x1), (2, .int x2), (3, .int x3), (4, .int x4), (6, .int x6), (7, .int x7), (8, .int x8), (9, .int x9)] → cw D dA o A s S H locs → W p l e (rC_pointsOf) s m args below meth c H locs 0 0 (cQi below args s D dA o A (rC_pointsOf) post) (F0 m 62 ls [])) (hT133 : ∀ (x1 : Int32) (x2 : Int32) (x3 : Int32) (x4 : Int32) (x6 : Int32) (x7 : Int32) (x8 : Int32) (x9 : Int32) (x10 : Int32) (x11 : Int32) (S : CS), T133 x1 x2 x3 x4 x6 x7 x8 x9 x10 x11 S → ∀ (H : Heap) (locs : List Loc) (ls : Array Slot), lv_has ls 12 [(0, .ref (o 0)), (1, .int x1), (2, .int x2), (3, .int x3), (4, .int x4), (6, .int x6), (7, .int x7), (8, .int x8), (9, .int x9), (10, .int x10), (11, .int x11)] → cw D dA o A s S H locs → W p l e (rC_pointsOf) s m args below meth c H locs 0 0 (cQi below args s D dA o A (rC_pointsOf) post) (F0 m 133 ls [])) {v0 : Int32} {x1 : Int32} {x2 : Int32} {x3 : Int32} {x4 : Int32} {x6 : Int32} {x7 : Int32} {x8 : Int32} {x9 : Int32} {S : CS} (h : C_pointsOf_w116 post T13 T62 T133 v0 x1 x2 x3 x4 x6 x7 x8 x9 S) {H : Heap} {locs : List Loc} {ls : Array Slot} (hl : lv_has ls 12 [(0, .ref (o 0)), (1, .int x1), (2, .int x2), (3, .int x3), (4, .int x4), (6, .int x6), (7, .int x7), (8, .int x8), (9, .int x9)]) (w : cw D dA o A s S H locs) : W p l e (rC_pointsOf) s m args below meth c H locs 0 0 (cQi below args s D dA o A (rC_pointsOf) post) (F0 m 116 ls [.int v0]) := by
  unfold C_pointsOf_w116 at h
  obtain ⟨⟨hx, hb, hml, hown, hts⟩, hr, hlk, hA⟩ := id C
  refine lv_istore (lv' := [(10, .int _), (0, .ref _), (1, .int _), (2, .int _), (3, .int _), (4, .int _), (6, .int _), (7, .int _), (8, .int _), (9, .int _)]) hx hb dX0_pointsOf_116 hl (by decide) rfl (fun ls hl => ?_)
  refine lv_aload_n hx hb dX0_pointsOf_118 rfl (lv_at hl 1 rfl) ?_
  refine cr_get C w 0 rfl rfl in_X0 14 (by decide) q178 rfl rfl dX0_pointsOf_119 ?_
  refine lv_bipush (v := 7) hx hb dX0_pointsOf_122 (by decide) ?_
  refine lv_iload hx hb dX0_pointsOf_124 (lv_at hl 6 rfl) ?_
  refine lv_imul hx hb dX0_pointsOf_126 ?_
  refine lv_iload hx hb dX0_pointsOf_127 (lv_at hl 9 rfl) ?_
  refine lv_iadd hx hb dX0_pointsOf_129 ?_
  obtain ⟨hi, h⟩ := h
  refine cr_iald C w 9 rfl hi dX0_pointsOf_130 ?_
  refine lv_istore (lv' := [(11, .int _), (10, .int _), (0, .ref _), (1, .int _), (2, .int _), (3, .int _), (4, .int _), (6, .int _), (7, .int _), (8, .int _), (9, .int _)]) hx hb dX0_pointsOf_131 hl (by decide) rfl (fun ls hl => ?_)
  exact hT133 _ _ _ _ _ _ _ _ _ _ _ h _ _ _ (lv_sub hl [2, 3, 4, 5, 6, 7, 8, 9, 10, 1, 0] rfl) w
def C_pointsOf_w89 (post : Int32 → CS → Prop) (T13 : Int32 → Int32 → Int32 → Int32 → CS → Prop) (T62 : Int32 → Int32 → Int32 → Int32 → Int32 → Int32 → Int32 → Int32 → CS → Prop) (T133 : Int32 → Int32 → Int32 → Int32 → Int32 → Int32 → Int32 → Int32 → Int32 → Int32 → CS → Prop) (x1 : Int32) (x2 : Int32) (x3 : Int32) (x4 : Int32) (x6 : Int32) (x7 : Int32) (x8 : Int32) (x9 : Int32) (S : CS) : Prop :=
  C_pointsOf_w116 post T13 T62 T133 (1 : Int32) x1 x2 x3 x4 x6 x7 x8 x9 S
set_option maxHeartbeats 4000000 in
set_option maxRecDepth 100000 in
theorem C_pointsOf_a89 {p : Program} {l : Launch} {e : Env} {s : State} {m : MethodId} {args : Array Value} {below : List Frame} {meth : Method} {c : Code} {D : va_G} {dA : Nat → ClassId} {o : Nat → Nat} {A : Nat → Prop} {post : Int32 → CS → Prop} {T13 : Int32 → Int32 → Int32 → Int32 → CS → Prop} {T62 : Int32 → Int32 → Int32 → Int32 → Int32 → Int32 → Int32 → Int32 → CS → Prop} {T133 : Int32 → Int32 → Int32 → Int32 → Int32 → Int32 → Int32 → Int32 → Int32 → Int32 → CS → Prop} (C : cC RX0 p m c cX0_pointsOf 12 s args meth (Option.some Jvm.ClassFile.FieldType.int) A) (hT13 : ∀ (x1 : Int32) (x2 : Int32) (x3 : Int32) (x4 : Int32) (S : CS), T13 x1 x2 x3 x4 S → ∀ (H : Heap) (locs : List Loc) (ls : Array Slot), lv_has ls 12 [(0, .ref (o 0)), (1, .int x1), (2, .int x2), (3, .int x3), (4, .int x4)] → cw D dA o A s S H locs → W p l e (rC_pointsOf) s m args below meth c H locs 0 0 (cQi below args s D dA o A (rC_pointsOf) post) (F0 m 13 ls [])) (hT62 : ∀ (x1 : Int32) (x2 : Int32) (x3 : Int32) (x4 : Int32) (x6 : Int32) (x7 : Int32) (x8 : Int32) (x9 : Int32) (S : CS), T62 x1 x2 x3 x4 x6 x7 x8 x9 S → ∀ (H : Heap) (locs : List Loc) (ls : Array Slot), lv_has ls 12 [(0, .ref (o 0)), (1, .int x1), (2, .int x2), (3, .int x3), (4, .int x4), (6, .int x6), (7, .int x7), (8, .int x8), (9, .int x9)] → cw D dA o A s S H locs → W p l e (rC_pointsOf) s m args below meth c H locs 0 0 (cQi below args s D dA o A (rC_pointsOf) post) (F0 m 62 ls [])) (hT133 : ∀ (x1 : Int32) (x2 : Int32) (x3 : Int32) (x4 : Int32) (x6 : Int32) (x7 : Int32) (x8 : Int32) (x9 : Int32) (x10 : Int32) (x11 : Int32) (S : CS), T133 x1 x2 x3 x4 x6 x7 x8 x9 x10 x11 S → ∀ (H : Heap) (locs : List Loc) (ls : Array Slot), lv_has ls 12 [(0, .ref (o 0)), (1, .int x1), (2, .int x2), (3, .int x3), (4, .int x4), (6, .int x6), (7, .int x7), (8, .int x8), (9, .int x9), (10, .int x10), (11, .int x11)] → cw D dA o A s S H locs → W p l e (rC_pointsOf) s m args below meth c H locs 0 0 (cQi below args s D dA o A (rC_pointsOf) post) (F0 m 133 ls [])) {x1 : Int32} {x2 : Int32} {x3 : Int32} {x4 : Int32} {x6 : Int32} {x7 : Int32} {x8 : Int32} {x9 : Int32} {S : CS} (h : C_pointsOf_w89 post T13 T62 T133 x1 x2 x3 x4 x6 x7 x8 x9 S) {H : Heap} {locs : List Loc} {ls : Array Slot} (hl : lv_has ls 12 [(0, .ref (o 0)), (1, .int x1), (2, .int x2), (3, .int x3), (4, .int x4), (6, .int x6), (7, .int x7), (8, .int x8), (9, .int x9)]) (w : cw D dA o A s S H locs) : W p l e (rC_pointsOf) s m args below meth c H locs 0 0 (cQi below args s D dA o A (rC_pointsOf) post) (F0 m 89 ls []) := by
  unfold C_pointsOf_w89 at h
  obtain ⟨⟨hx, hb, hml, hown, hts⟩, hr, hlk, hA⟩ := id C
  refine lv_iconst (v := 1) hx hb dX0_pointsOf_89 (by decide) ?_
  refine lv_goto (tgt := 116) hx hb dX0_pointsOf_90 (by decide) ?_
  exact C_pointsOf_a116 C hT13 hT62 hT133 h (lv_sub hl [0, 1, 2, 3, 4, 5, 6, 7, 8] rfl) w
def C_pointsOf_w62 (post : Int32 → CS → Prop) (T13 : Int32 → Int32 → Int32 → Int32 → CS → Prop) (T62 : Int32 → Int32 → Int32 → Int32 → Int32 → Int32 → Int32 → Int32 → CS → Prop) (T133 : Int32 → Int32 → Int32 → Int32 → Int32 → Int32 → Int32 → Int32 → Int32 → Int32 → CS → Prop) (x1 : Int32) (x2 : Int32) (x3 : Int32) (x4 : Int32) (x6 : Int32) (x7 : Int32) (x8 : Int32) (x9 : Int32) (S : CS) : Prop :=
  (((7 : Int32) ≤ x9 → T13 x1 x2 x3 (x4 + (1 : Int32)) S) ∧ (¬ (7 : Int32) ≤ x9 → (((4 : Int32) ≤ x9 → C_kindOf x7 x8 S (fun (r1 : Int32) (S1 : CS) => (((x9 - (4 : Int32)) = r1 → C_pointsOf_w116 post T13 T62 T133 (0 : Int32) x1 x2 x3 x4 x6 x7 x8 x9 S1) ∧ (¬ (x9 - (4 : Int32)) = r1 → C_pointsOf_w116 post T13 T62 T133 (1 : Int32) x1 x2 x3 x4 x6 x7 x8 x9 S1)))) ∧ (¬ (4 : Int32) ≤ x9 → ((x9 = x7 → C_pointsOf_w89 post T13 T62 T133 x1 x2 x3 x4 x6 x7 x8 x9 S) ∧ (¬ x9 = x7 → ((¬ x9 = x8 → C_pointsOf_w116 post T13 T62 T133 (0 : Int32) x1 x2 x3 x4 x6 x7 x8 x9 S) ∧ (x9 = x8 → C_pointsOf_w89 post T13 T62 T133 x1 x2 x3 x4 x6 x7 x8 x9 S))))))))
set_option maxHeartbeats 4000000 in
set_option maxRecDepth 100000 in
theorem C_pointsOf_a62 {p : Program} {l : Launch} {e : Env} {s : State} {m : MethodId} {args : Array Value} {below : List Frame} {meth : Method} {c : Code} {D : va_G} {dA : Nat → ClassId} {o : Nat → Nat} {A : Nat → Prop} {post : Int32 → CS → Prop} {T13 : Int32 → Int32 → Int32 → Int32 → CS → Prop} {T62 : Int32 → Int32 → Int32 → Int32 → Int32 → Int32 → Int32 → Int32 → CS → Prop} {T133 : Int32 → Int32 → Int32 → Int32 → Int32 → Int32 → Int32 → Int32 → Int32 → Int32 → CS → Prop} (C : cC RX0 p m c cX0_pointsOf 12 s args meth (Option.some Jvm.ClassFile.FieldType.int) A) (hT13 : ∀ (x1 : Int32) (x2 : Int32) (x3 : Int32) (x4 : Int32) (S : CS), T13 x1 x2 x3 x4 S → ∀ (H : Heap) (locs : List Loc) (ls : Array Slot), lv_has ls 12 [(0, .ref (o 0)), (1, .int x1), (2, .int x2), (3, .int x3), (4, .int x4)] → cw D dA o A s S H locs → W p l e (rC_pointsOf) s m args below meth c H locs 0 0 (cQi below args s D dA o A (rC_pointsOf) post) (F0 m 13 ls [])) (hT62 : ∀ (x1 : Int32) (x2 : Int32) (x3 : Int32) (x4 : Int32) (x6 : Int32) (x7 : Int32) (x8 : Int32) (x9 : Int32) (S : CS), T62 x1 x2 x3 x4 x6 x7 x8 x9 S → ∀ (H : Heap) (locs : List Loc) (ls : Array Slot), lv_has ls 12 [(0, .ref (o 0)), (1, .int x1), (2, .int x2), (3, .int x3), (4, .int x4), (6, .int x6), (7, .int x7), (8, .int x8), (9, .int x9)] → cw D dA o A s S H locs → W p l e (rC_pointsOf) s m args below meth c H locs 0 0 (cQi below args s D dA o A (rC_pointsOf) post) (F0 m 62 ls [])) (hT133 : ∀ (x1 : Int32) (x2 : Int32) (x3 : Int32) (x4 : Int32) (x6 : Int32) (x7 : Int32) (x8 : Int32) (x9 : Int32) (x10 : Int32) (x11 : Int32) (S : CS), T133 x1 x2 x3 x4 x6 x7 x8 x9 x10 x11 S → ∀ (H : Heap) (locs : List Loc) (ls : Array Slot), lv_has ls 12 [(0, .ref (o 0)), (1, .int x1), (2, .int x2), (3, .int x3), (4, .int x4), (6, .int x6), (7, .int x7), (8, .int x8), (9, .int x9), (10, .int x10), (11, .int x11)] → cw D dA o A s S H locs → W p l e (rC_pointsOf) s m args below meth c H locs 0 0 (cQi below args s D dA o A (rC_pointsOf) post) (F0 m 133 ls [])) {x1 : Int32} {x2 : Int32} {x3 : Int32} {x4 : Int32} {x6 : Int32} {x7 : Int32} {x8 : Int32} {x9 : Int32} {S : CS} (h : C_pointsOf_w62 post T13 T62 T133 x1 x2 x3 x4 x6 x7 x8 x9 S) {H : Heap} {locs : List Loc} {ls : Array Slot} (hl : lv_has ls 12 [(0, .ref (o 0)), (1, .int x1), (2, .int x2), (3, .int x3), (4, .int x4), (6, .int x6), (7, .int x7), (8, .int x8), (9, .int x9)]) (w : cw D dA o A s S H locs) : W p l e (rC_pointsOf) s m args below meth c H locs 0 0 (cQi below args s D dA o A (rC_pointsOf) post) (F0 m 62 ls []) := by
  unfold C_pointsOf_w62 at h
  obtain ⟨⟨hx, hb, hml, hown, hts⟩, hr, hlk, hA⟩ := id C
  refine lv_iload hx hb dX0_pointsOf_62 (lv_at hl 8 rfl) ?_
  refine lv_bipush (v := 7) hx hb dX0_pointsOf_64 (by decide) ?_
  obtain ⟨h1, h2⟩ := h
  refine lv_icmp_ge (tgt := 189) hx hb dX0_pointsOf_66 (by decide) (fun c1 => ?_) (fun c1 => ?_)
  · have h := h1 c1
    refine lv_iinc (v := _ + (1 : Int32)) (lv' := [(4, .int _), (0, .ref _), (1, .int _), (2, .int _), (3, .int _), (6, .int _), (7, .int _), (8, .int _), (9, .int _)]) hx hb dX0_pointsOf_189 hl (k := 4) rfl rfl (by decide) rfl (fun ls hl => ?_)
    refine lv_goto (tgt := 13) hx hb dX0_pointsOf_192 (by decide) ?_
    exact hT13 _ _ _ _ _ h _ _ _ (lv_sub hl [1, 2, 3, 4, 0] rfl) w
  · have h := h2 c1
    refine lv_iload hx hb dX0_pointsOf_69 (lv_at hl 8 rfl) ?_
    refine lv_iconst (v := 4) hx hb dX0_pointsOf_71 (by decide) ?_
    obtain ⟨h1, h2⟩ := h
    refine lv_icmp_ge (tgt := 97) hx hb dX0_pointsOf_72 (by decide) (fun c1 => ?_) (fun c1 => ?_)
    · have h := h1 c1
      refine lv_iload hx hb dX0_pointsOf_97 (lv_at hl 8 rfl) ?_
      refine lv_iconst (v := 4) hx hb dX0_pointsOf_99 (by decide) ?_
      refine lv_isub hx hb dX0_pointsOf_100 ?_
      refine lv_iload hx hb dX0_pointsOf_101 (lv_at hl 6 rfl) ?_
      refine lv_iload hx hb dX0_pointsOf_103 (lv_at hl 7 rfl) ?_
      refine cr_callSI (rest := [.int _]) C w h (va_cwS 2 hts (lw_S q453 q454 q82 q455) rfl rfl rfl C_kindOf_d ⟨Nat.le_of_ble_eq_true rfl, Nat.le_of_ble_eq_true rfl⟩) rfl hl.1 rfl (Nat.le_of_ble_eq_true rfl) ⟨Nat.le_of_ble_eq_true rfl, Nat.le_of_ble_eq_true rfl⟩ dX0_pointsOf_105 (fun r1 S1 H locs h w => ?_)
      obtain ⟨h1, h2⟩ := h
      refine lv_icmp_eq (tgt := 115) hx hb dX0_pointsOf_108 (by decide) (fun c1 => ?_) (fun c1 => ?_)
      · have h := h1 c1
        refine lv_iconst (v := 0) hx hb dX0_pointsOf_115 (by decide) ?_
        exact C_pointsOf_a116 C hT13 hT62 hT133 h (lv_sub hl [0, 1, 2, 3, 4, 5, 6, 7, 8] rfl) w
      · have h := h2 c1
        refine lv_iconst (v := 1) hx hb dX0_pointsOf_111 (by decide) ?_
        refine lv_goto (tgt := 116) hx hb dX0_pointsOf_112 (by decide) ?_
        exact C_pointsOf_a116 C hT13 hT62 hT133 h (lv_sub hl [0, 1, 2, 3, 4, 5, 6, 7, 8] rfl) w
    · have h := h2 c1
      refine lv_iload hx hb dX0_pointsOf_75 (lv_at hl 8 rfl) ?_
      refine lv_iload hx hb dX0_pointsOf_77 (lv_at hl 6 rfl) ?_
      obtain ⟨h1, h2⟩ := h
      refine lv_icmp_eq (tgt := 89) hx hb dX0_pointsOf_79 (by decide) (fun c1 => ?_) (fun c1 => ?_)
      · have h := h1 c1
        exact C_pointsOf_a89 C hT13 hT62 hT133 h (lv_sub hl [0, 1, 2, 3, 4, 5, 6, 7, 8] rfl) w
      · have h := h2 c1
        refine lv_iload hx hb dX0_pointsOf_82 (lv_at hl 8 rfl) ?_
        refine lv_iload hx hb dX0_pointsOf_84 (lv_at hl 7 rfl) ?_
        obtain ⟨h1, h2⟩ := h
        refine lv_icmp_ne (tgt := 93) hx hb dX0_pointsOf_86 (by decide) (fun c1 => ?_) (fun c1 => ?_)
        · have h := h1 c1
          refine lv_iconst (v := 0) hx hb dX0_pointsOf_93 (by decide) ?_
          refine lv_goto (tgt := 116) hx hb dX0_pointsOf_94 (by decide) ?_
          exact C_pointsOf_a116 C hT13 hT62 hT133 h (lv_sub hl [0, 1, 2, 3, 4, 5, 6, 7, 8] rfl) w
        · have h := h2 c1
          exact C_pointsOf_a89 C hT13 hT62 hT133 h (lv_sub hl [0, 1, 2, 3, 4, 5, 6, 7, 8] rfl) w
def C_pointsOf_w13 (post : Int32 → CS → Prop) (T13 : Int32 → Int32 → Int32 → Int32 → CS → Prop) (T62 : Int32 → Int32 → Int32 → Int32 → Int32 → Int32 → Int32 → Int32 → CS → Prop) (T133 : Int32 → Int32 → Int32 → Int32 → Int32 → Int32 → Int32 → Int32 → Int32 → Int32 → CS → Prop) (x1 : Int32) (x2 : Int32) (x3 : Int32) (x4 : Int32) (S : CS) : Prop :=
  ((x3 ≤ x4 → post x2 S) ∧ (¬ x3 ≤ x4 → C_firstS3 x4 S (fun (r1 : Int32) (S1 : CS) => (vp_in (r1 - r1 / (6 : Int32) * (6 : Int32)) 6 ∧ (vp_in (r1 - r1 / (6 : Int32) * (6 : Int32)) 6 ∧ T62 x1 x2 x3 x4 (r1 / (6 : Int32)) (lowF ((r1 - r1 / (6 : Int32) * (6 : Int32))).toNatClampNeg) (highF ((r1 - r1 / (6 : Int32) * (6 : Int32))).toNatClampNeg) (0 : Int32) S1)))))
set_option maxHeartbeats 4000000 in
set_option maxRecDepth 100000 in
theorem C_pointsOf_a13 {p : Program} {l : Launch} {e : Env} {s : State} {m : MethodId} {args : Array Value} {below : List Frame} {meth : Method} {c : Code} {D : va_G} {dA : Nat → ClassId} {o : Nat → Nat} {A : Nat → Prop} {post : Int32 → CS → Prop} {T13 : Int32 → Int32 → Int32 → Int32 → CS → Prop} {T62 : Int32 → Int32 → Int32 → Int32 → Int32 → Int32 → Int32 → Int32 → CS → Prop} {T133 : Int32 → Int32 → Int32 → Int32 → Int32 → Int32 → Int32 → Int32 → Int32 → Int32 → CS → Prop} (C : cC RX0 p m c cX0_pointsOf 12 s args meth (Option.some Jvm.ClassFile.FieldType.int) A) (hT13 : ∀ (x1 : Int32) (x2 : Int32) (x3 : Int32) (x4 : Int32) (S : CS), T13 x1 x2 x3 x4 S → ∀ (H : Heap) (locs : List Loc) (ls : Array Slot), lv_has ls 12 [(0, .ref (o 0)), (1, .int x1), (2, .int x2), (3, .int x3), (4, .int x4)] → cw D dA o A s S H locs → W p l e (rC_pointsOf) s m args below meth c H locs 0 0 (cQi below args s D dA o A (rC_pointsOf) post) (F0 m 13 ls [])) (hT62 : ∀ (x1 : Int32) (x2 : Int32) (x3 : Int32) (x4 : Int32) (x6 : Int32) (x7 : Int32) (x8 : Int32) (x9 : Int32) (S : CS), T62 x1 x2 x3 x4 x6 x7 x8 x9 S → ∀ (H : Heap) (locs : List Loc) (ls : Array Slot), lv_has ls 12 [(0, .ref (o 0)), (1, .int x1), (2, .int x2), (3, .int x3), (4, .int x4), (6, .int x6), (7, .int x7), (8, .int x8), (9, .int x9)] → cw D dA o A s S H locs → W p l e (rC_pointsOf) s m args below meth c H locs 0 0 (cQi below args s D dA o A (rC_pointsOf) post) (F0 m 62 ls [])) (hT133 : ∀ (x1 : Int32) (x2 : Int32) (x3 : Int32) (x4 : Int32) (x6 : Int32) (x7 : Int32) (x8 : Int32) (x9 : Int32) (x10 : Int32) (x11 : Int32) (S : CS), T133 x1 x2 x3 x4 x6 x7 x8 x9 x10 x11 S → ∀ (H : Heap) (locs : List Loc) (ls : Array Slot), lv_has ls 12 [(0, .ref (o 0)), (1, .int x1), (2, .int x2), (3, .int x3), (4, .int x4), (6, .int x6), (7, .int x7), (8, .int x8), (9, .int x9), (10, .int x10), (11, .int x11)] → cw D dA o A s S H locs → W p l e (rC_pointsOf) s m args below meth c H locs 0 0 (cQi below args s D dA o A (rC_pointsOf) post) (F0 m 133 ls [])) {x1 : Int32} {x2 : Int32} {x3 : Int32} {x4 : Int32} {S : CS} (h : C_pointsOf_w13 post T13 T62 T133 x1 x2 x3 x4 S) {H : Heap} {locs : List Loc} {ls : Array Slot} (hl : lv_has ls 12 [(0, .ref (o 0)), (1, .int x1), (2, .int x2), (3, .int x3), (4, .int x4)]) (w : cw D dA o A s S H locs) : W p l e (rC_pointsOf) s m args below meth c H locs 0 0 (cQi below args s D dA o A (rC_pointsOf) post) (F0 m 13 ls []) := by
  unfold C_pointsOf_w13 at h
  obtain ⟨⟨hx, hb, hml, hown, hts⟩, hr, hlk, hA⟩ := id C
  obtain ⟨tL, tH, hZL, hTL, hZH, hTH⟩ := w.2.2.2.2.2
  refine lv_iload hx hb dX0_pointsOf_13 (lv_at hl 4 rfl) ?_
  refine lv_iload_n hx hb dX0_pointsOf_15 rfl (lv_at hl 3 rfl) ?_
  obtain ⟨h1, h2⟩ := h
  refine lv_icmp_ge (tgt := 195) hx hb dX0_pointsOf_16 (by decide) (fun c1 => ?_) (fun c1 => ?_)
  · have h := h1 c1
    refine lv_iload_n hx hb dX0_pointsOf_195 rfl (lv_at hl 2 rfl) ?_
    exact cr_iret C w h (Nat.le_of_ble_eq_true rfl) (Nat.le_of_ble_eq_true rfl) dX0_pointsOf_196
  · have h := h2 c1
    refine lv_aload_n hx hb dX0_pointsOf_19 rfl (lv_at hl 0 rfl) ?_
    refine cr_get C w 0 rfl rfl in_X0 3 (by decide) q167 rfl rfl dX0_pointsOf_20 ?_
    refine lv_iload hx hb dX0_pointsOf_23 (lv_at hl 4 rfl) ?_
    refine cr_callUI (owner := RX1) (rest := []) (b := fun o => o 3) C w h (recv3 w) (va_cwU 1 hts (lw_U q349 q350 q352 q353 q83 q354) rfl rfl rfl rfl (by decide +kernel) ⟨Nat.le_of_ble_eq_true rfl, Nat.le_of_ble_eq_true rfl⟩) rfl hl.1 rfl (Nat.le_of_ble_eq_true rfl) ⟨Nat.le_of_ble_eq_true rfl, Nat.le_of_ble_eq_true rfl⟩ dX0_pointsOf_25 (fun r1 S1 H locs h w => ?_)
    refine lv_istore (lv' := [(5, .int _), (0, .ref _), (1, .int _), (2, .int _), (3, .int _), (4, .int _)]) hx hb dX0_pointsOf_28 hl (by decide) rfl (fun ls hl => ?_)
    refine lv_iload hx hb dX0_pointsOf_30 (lv_at hl 0 rfl) ?_
    refine lv_bipush (v := 6) hx hb dX0_pointsOf_32 (by decide) ?_
    refine lv_idiv hx hb dX0_pointsOf_34 (by decide) ?_
    refine lv_istore (lv' := [(6, .int _), (5, .int _), (0, .ref _), (1, .int _), (2, .int _), (3, .int _), (4, .int _)]) hx hb dX0_pointsOf_35 hl (by decide) rfl (fun ls hl => ?_)
    refine cr_gets (f := fun j => .int (lowF j)) C w hZL q318 dX0_pointsOf_37 ?_ -- tL
    refine lv_iload hx hb dX0_pointsOf_40 (lv_at hl 1 rfl) ?_
    refine lv_bipush (v := 6) hx hb dX0_pointsOf_42 (by decide) ?_
    refine lv_irem hx hb dX0_pointsOf_44 (by decide) ?_
    obtain ⟨hi, h⟩ := h
    refine cr_sald C w hTL hi dX0_pointsOf_45 ?_
    refine lv_istore (lv' := [(7, .int _), (6, .int _), (5, .int _), (0, .ref _), (1, .int _), (2, .int _), (3, .int _), (4, .int _)]) hx hb dX0_pointsOf_46 hl (by decide) rfl (fun ls hl => ?_)
    refine cr_gets (f := fun j => .int (highF j)) C w hZH q319 dX0_pointsOf_48 ?_ -- tH
    refine lv_iload hx hb dX0_pointsOf_51 (lv_at hl 2 rfl) ?_
    refine lv_bipush (v := 6) hx hb dX0_pointsOf_53 (by decide) ?_
    refine lv_irem hx hb dX0_pointsOf_55 (by decide) ?_
    obtain ⟨hi, h⟩ := h
    refine cr_sald C w hTH hi dX0_pointsOf_56 ?_
    refine lv_istore (lv' := [(8, .int _), (7, .int _), (6, .int _), (5, .int _), (0, .ref _), (1, .int _), (2, .int _), (3, .int _), (4, .int _)]) hx hb dX0_pointsOf_57 hl (by decide) rfl (fun ls hl => ?_)
    refine lv_iconst (v := 0) hx hb dX0_pointsOf_59 (by decide) ?_
    refine lv_istore (lv' := [(9, .int _), (8, .int _), (7, .int _), (6, .int _), (5, .int _), (0, .ref _), (1, .int _), (2, .int _), (3, .int _), (4, .int _)]) hx hb dX0_pointsOf_60 hl (by decide) rfl (fun ls hl => ?_)
    exact hT62 _ _ _ _ _ _ _ _ _ h _ _ _ (lv_sub hl [5, 6, 7, 8, 9, 3, 2, 1, 0] rfl) w
def C_pointsOf_w0 (post : Int32 → CS → Prop) (T13 : Int32 → Int32 → Int32 → Int32 → CS → Prop) (T62 : Int32 → Int32 → Int32 → Int32 → Int32 → Int32 → Int32 → Int32 → CS → Prop) (T133 : Int32 → Int32 → Int32 → Int32 → Int32 → Int32 → Int32 → Int32 → Int32 → Int32 → CS → Prop) (x1 : Int32) (S : CS) : Prop :=
  C_findS3 S (fun (r1 : Int32) (S1 : CS) => T13 x1 (0 : Int32) r1 (0 : Int32) S1)
set_option maxHeartbeats 4000000 in
set_option maxRecDepth 100000 in
theorem C_pointsOf_a0 {p : Program} {l : Launch} {e : Env} {s : State} {m : MethodId} {args : Array Value} {below : List Frame} {meth : Method} {c : Code} {D : va_G} {dA : Nat → ClassId} {o : Nat → Nat} {A : Nat → Prop} {post : Int32 → CS → Prop} {T13 : Int32 → Int32 → Int32 → Int32 → CS → Prop} {T62 : Int32 → Int32 → Int32 → Int32 → Int32 → Int32 → Int32 → Int32 → CS → Prop} {T133 : Int32 → Int32 → Int32 → Int32 → Int32 → Int32 → Int32 → Int32 → Int32 → Int32 → CS → Prop} (C : cC RX0 p m c cX0_pointsOf 12 s args meth (Option.some Jvm.ClassFile.FieldType.int) A) (hT13 : ∀ (x1 : Int32) (x2 : Int32) (x3 : Int32) (x4 : Int32) (S : CS), T13 x1 x2 x3 x4 S → ∀ (H : Heap) (locs : List Loc) (ls : Array Slot), lv_has ls 12 [(0, .ref (o 0)), (1, .int x1), (2, .int x2), (3, .int x3), (4, .int x4)] → cw D dA o A s S H locs → W p l e (rC_pointsOf) s m args below meth c H locs 0 0 (cQi below args s D dA o A (rC_pointsOf) post) (F0 m 13 ls [])) (hT62 : ∀ (x1 : Int32) (x2 : Int32) (x3 : Int32) (x4 : Int32) (x6 : Int32) (x7 : Int32) (x8 : Int32) (x9 : Int32) (S : CS), T62 x1 x2 x3 x4 x6 x7 x8 x9 S → ∀ (H : Heap) (locs : List Loc) (ls : Array Slot), lv_has ls 12 [(0, .ref (o 0)), (1, .int x1), (2, .int x2), (3, .int x3), (4, .int x4), (6, .int x6), (7, .int x7), (8, .int x8), (9, .int x9)] → cw D dA o A s S H locs → W p l e (rC_pointsOf) s m args below meth c H locs 0 0 (cQi below args s D dA o A (rC_pointsOf) post) (F0 m 62 ls [])) (hT133 : ∀ (x1 : Int32) (x2 : Int32) (x3 : Int32) (x4 : Int32) (x6 : Int32) (x7 : Int32) (x8 : Int32) (x9 : Int32) (x10 : Int32) (x11 : Int32) (S : CS), T133 x1 x2 x3 x4 x6 x7 x8 x9 x10 x11 S → ∀ (H : Heap) (locs : List Loc) (ls : Array Slot), lv_has ls 12 [(0, .ref (o 0)), (1, .int x1), (2, .int x2), (3, .int x3), (4, .int x4), (6, .int x6), (7, .int x7), (8, .int x8), (9, .int x9), (10, .int x10), (11, .int x11)] → cw D dA o A s S H locs → W p l e (rC_pointsOf) s m args below meth c H locs 0 0 (cQi below args s D dA o A (rC_pointsOf) post) (F0 m 133 ls [])) {x1 : Int32} {S : CS} (h : C_pointsOf_w0 post T13 T62 T133 x1 S) {H : Heap} {locs : List Loc} {ls : Array Slot} (hl : lv_has ls 12 [(0, .ref (o 0)), (1, .int x1)]) (w : cw D dA o A s S H locs) : W p l e (rC_pointsOf) s m args below meth c H locs 0 0 (cQi below args s D dA o A (rC_pointsOf) post) (F0 m 0 ls []) := by
  unfold C_pointsOf_w0 at h
  obtain ⟨⟨hx, hb, hml, hown, hts⟩, hr, hlk, hA⟩ := id C
  refine lv_iconst (v := 0) hx hb dX0_pointsOf_0 (by decide) ?_
  refine lv_istore_n (lv' := [(2, .int _), (0, .ref _), (1, .int _)]) hx hb dX0_pointsOf_1 rfl hl (by decide) rfl (fun ls hl => ?_)
  refine lv_aload_n hx hb dX0_pointsOf_2 rfl (lv_at hl 1 rfl) ?_
  refine cr_get C w 0 rfl rfl in_X0 3 (by decide) q167 rfl rfl dX0_pointsOf_3 ?_
  refine cr_callUI (owner := RX1) (rest := []) (b := fun o => o 3) C w h (recv3 w) (va_cwU 0 hts (lw_U q326 q327 q328 q293 q83 q294) rfl rfl rfl rfl (by decide +kernel) ⟨Nat.le_of_ble_eq_true rfl, Nat.le_of_ble_eq_true rfl⟩) rfl hl.1 rfl (Nat.le_of_ble_eq_true rfl) ⟨Nat.le_of_ble_eq_true rfl, Nat.le_of_ble_eq_true rfl⟩ dX0_pointsOf_6 (fun r1 S1 H locs h w => ?_)
  refine lv_istore_n (lv' := [(3, .int _), (2, .int _), (0, .ref _), (1, .int _)]) hx hb dX0_pointsOf_9 rfl hl (by decide) rfl (fun ls hl => ?_)
  refine lv_iconst (v := 0) hx hb dX0_pointsOf_10 (by decide) ?_
  refine lv_istore (lv' := [(4, .int _), (3, .int _), (2, .int _), (0, .ref _), (1, .int _)]) hx hb dX0_pointsOf_11 hl (by decide) rfl (fun ls hl => ?_)
  exact hT13 _ _ _ _ _ h _ _ _ (lv_sub hl [3, 4, 2, 1, 0] rfl) w
def C_pointsOf_VC (x1 : Int32) (S : CS) (post : Int32 → CS → Prop) : Prop := ∀ (T13 : Int32 → Int32 → Int32 → Int32 → CS → Prop) (T62 : Int32 → Int32 → Int32 → Int32 → Int32 → Int32 → Int32 → Int32 → CS → Prop) (T133 : Int32 → Int32 → Int32 → Int32 → Int32 → Int32 → Int32 → Int32 → Int32 → Int32 → CS → Prop), (∀ (x1 : Int32) (x2 : Int32) (x3 : Int32) (x4 : Int32) (S : CS), C_pointsOf_w13 post T13 T62 T133 x1 x2 x3 x4 S → T13 x1 x2 x3 x4 S) → (∀ (x1 : Int32) (x2 : Int32) (x3 : Int32) (x4 : Int32) (x6 : Int32) (x7 : Int32) (x8 : Int32) (x9 : Int32) (S : CS), C_pointsOf_w62 post T13 T62 T133 x1 x2 x3 x4 x6 x7 x8 x9 S → T62 x1 x2 x3 x4 x6 x7 x8 x9 S) → (∀ (x1 : Int32) (x2 : Int32) (x3 : Int32) (x4 : Int32) (x6 : Int32) (x7 : Int32) (x8 : Int32) (x9 : Int32) (x10 : Int32) (x11 : Int32) (S : CS), C_pointsOf_w133 post T13 T62 T133 x1 x2 x3 x4 x6 x7 x8 x9 x10 x11 S → T133 x1 x2 x3 x4 x6 x7 x8 x9 x10 x11 S) → C_pointsOf_w0 post T13 T62 T133 x1 S
theorem C_pointsOf_ok {x1 : Int32} {S : CS} {post : Int32 → CS → Prop} (h : C_pointsOf_VC x1 S post) : C_pointsOf x1 S post := by
  intro l D dA o sz
  refine cr_start (fun A => va_Qi post (cB D dA o A) A) rfl (Nat.le_of_ble_eq_true rfl) (by decide) ?_
  intro p e s m args below meth c ls A C w hl
  have hl : lv_has ls 12 [(0, .ref (o 0)), (1, .int x1)] := hl
  have h := h (fun (x1 : Int32) (x2 : Int32) (x3 : Int32) (x4 : Int32) S => ∀ (H : Heap) (locs : List Loc) (ls : Array Slot), lv_has ls 12 [(0, .ref (o 0)), (1, .int x1), (2, .int x2), (3, .int x3), (4, .int x4)] → cw D dA o A s S H locs → W p l e (rC_pointsOf) s m args below meth c H locs 0 0 (cQi below args s D dA o A (rC_pointsOf) post) (F0 m 13 ls [])) (fun (x1 : Int32) (x2 : Int32) (x3 : Int32) (x4 : Int32) (x6 : Int32) (x7 : Int32) (x8 : Int32) (x9 : Int32) S => ∀ (H : Heap) (locs : List Loc) (ls : Array Slot), lv_has ls 12 [(0, .ref (o 0)), (1, .int x1), (2, .int x2), (3, .int x3), (4, .int x4), (6, .int x6), (7, .int x7), (8, .int x8), (9, .int x9)] → cw D dA o A s S H locs → W p l e (rC_pointsOf) s m args below meth c H locs 0 0 (cQi below args s D dA o A (rC_pointsOf) post) (F0 m 62 ls [])) (fun (x1 : Int32) (x2 : Int32) (x3 : Int32) (x4 : Int32) (x6 : Int32) (x7 : Int32) (x8 : Int32) (x9 : Int32) (x10 : Int32) (x11 : Int32) S => ∀ (H : Heap) (locs : List Loc) (ls : Array Slot), lv_has ls 12 [(0, .ref (o 0)), (1, .int x1), (2, .int x2), (3, .int x3), (4, .int x4), (6, .int x6), (7, .int x7), (8, .int x8), (9, .int x9), (10, .int x10), (11, .int x11)] → cw D dA o A s S H locs → W p l e (rC_pointsOf) s m args below meth c H locs 0 0 (cQi below args s D dA o A (rC_pointsOf) post) (F0 m 133 ls [])) (fun _ _ _ _ S h H locs ls hl w => C_pointsOf_a13 C (fun _ _ _ _ _ h => h) (fun _ _ _ _ _ _ _ _ _ h => h) (fun _ _ _ _ _ _ _ _ _ _ _ h => h) h hl w) (fun _ _ _ _ _ _ _ _ S h H locs ls hl w => C_pointsOf_a62 C (fun _ _ _ _ _ h => h) (fun _ _ _ _ _ _ _ _ _ h => h) (fun _ _ _ _ _ _ _ _ _ _ _ h => h) h hl w) (fun _ _ _ _ _ _ _ _ _ _ S h H locs ls hl w => C_pointsOf_a133 C (fun _ _ _ _ _ h => h) (fun _ _ _ _ _ _ _ _ _ h => h) (fun _ _ _ _ _ _ _ _ _ _ _ h => h) h hl w)
  exact C_pointsOf_a0 C (fun _ _ _ _ _ h => h) (fun _ _ _ _ _ _ _ _ _ h => h) (fun _ _ _ _ _ _ _ _ _ _ _ h => h) h (lv_sub hl [0, 1] rfl) w
