/-! ThirdSheets.open(II)I -/
def C_open_w15 (post : Int32 → CS → Prop) (S : CS) : Prop :=
  post (-2 : Int32) S
set_option maxHeartbeats 4000000 in
set_option maxRecDepth 100000 in
theorem C_open_a15 {p : Program} {l : Launch} {e : Env} {s : State} {m : MethodId} {args : Array Value} {below : List Frame} {meth : Method} {c : Code} {D : va_G} {dA : Nat → ClassId} {o : Nat → Nat} {A : Nat → Prop} {post : Int32 → CS → Prop} (C : cC RX0 p m c cX0_open 4 s args meth (Option.some Jvm.ClassFile.FieldType.int) A) {S : CS} (h : C_open_w15 post S) {H : Heap} {locs : List Loc} {ls : Array Slot} (hl : lv_has ls 4 [(0, .ref (o 0))]) (w : cw D dA o A s S H locs) : W p l e (rC_open) s m args below meth c H locs 0 0 (cQi below args s D dA o A (rC_open) post) (F0 m 15 ls []) := by
  unfold C_open_w15 at h
  obtain ⟨⟨hx, hb, hml, hown, hts⟩, hr, hlk, hA⟩ := id C
  refine lv_bipush (v := -2) hx hb dX0_open_15 (by decide) ?_
  exact cr_iret C w h (Nat.le_of_ble_eq_true rfl) (Nat.le_of_ble_eq_true rfl) dX0_open_17
def C_open_w0 (post : Int32 → CS → Prop) (x1 : Int32) (x2 : Int32) (S : CS) : Prop :=
  C_isPiece x1 S (fun (r1 : Int32) (S1 : CS) => ((r1 = 0 → C_open_w15 post S1) ∧ (¬ r1 = 0 → C_isCorner x2 S1 (fun (r2 : Int32) (S2 : CS) => ((¬ r2 = 0 → (vp_in x1 3 ∧ (vp_in x2 4 ∧ ((∀ g4 : Nat, (kGl S2 ((x1).toNatClampNeg) (x2).toNatClampNeg) = some g4 → (vp_in x1 3 ∧ (vp_in x2 4 ∧ (fun (S6 : CS) => (pk S6 g4 0 ∧ (vp_in (kG S6 g4).1 3 ∧ (pk S6 g4 0 ∧ (vp_in (kG S6 g4).2.1 4 ∧ (fun (S8 : CS) => C_changed S8 (fun (S9 : CS) => post (1 : Int32) S9)) (tGl S6 (((kG S6 g4).1).toNatClampNeg) ((kG S6 g4).2.1).toNatClampNeg none)))))) (tGl S2 ((x1).toNatClampNeg) (x2).toNatClampNeg none)))) ∧ ((kGl S2 ((x1).toNatClampNeg) (x2).toNatClampNeg) = none → post (-3 : Int32) S2))))) ∧ (r2 = 0 → C_open_w15 post S2))))))
set_option maxHeartbeats 4000000 in
set_option maxRecDepth 100000 in
theorem C_open_a0 {p : Program} {l : Launch} {e : Env} {s : State} {m : MethodId} {args : Array Value} {below : List Frame} {meth : Method} {c : Code} {D : va_G} {dA : Nat → ClassId} {o : Nat → Nat} {A : Nat → Prop} {post : Int32 → CS → Prop} (C : cC RX0 p m c cX0_open 4 s args meth (Option.some Jvm.ClassFile.FieldType.int) A) {x1 : Int32} {x2 : Int32} {S : CS} (h : C_open_w0 post x1 x2 S) {H : Heap} {locs : List Loc} {ls : Array Slot} (hl : lv_has ls 4 [(0, .ref (o 0)), (1, .int x1), (2, .int x2)]) (w : cw D dA o A s S H locs) : W p l e (rC_open) s m args below meth c H locs 0 0 (cQi below args s D dA o A (rC_open) post) (F0 m 0 ls []) := by
  unfold C_open_w0 at h
  obtain ⟨⟨hx, hb, hml, hown, hts⟩, hr, hlk, hA⟩ := id C
  refine lv_aload_n hx hb dX0_open_0 rfl (lv_at hl 0 rfl) ?_
  refine lv_iload_n hx hb dX0_open_1 rfl (lv_at hl 1 rfl) ?_
  refine cr_callVI (rest := []) (b := (fun o => o 0)) C w h (recv0 w) (cwV 1 hts (lw_V q240 q242 qs1 q82 q243) rfl rfl rfl C_isPiece_d ⟨Nat.le_of_ble_eq_true rfl, Nat.le_of_ble_eq_true rfl⟩) rfl hl.1 rfl (Nat.le_of_ble_eq_true rfl) ⟨Nat.le_of_ble_eq_true rfl, Nat.le_of_ble_eq_true rfl⟩ dX0_open_2 (fun r1 S1 H locs h w => ?_)
  obtain ⟨h1, h2⟩ := h
  refine lv_if_eq (tgt := 15) hx hb dX0_open_5 (by decide) (fun c1 => ?_) (fun c1 => ?_)
  · have h := h1 c1
    exact C_open_a15 C h (lv_sub hl [0] rfl) w
  · have h := h2 c1
    refine lv_iload_n hx hb dX0_open_8 rfl (lv_at hl 2 rfl) ?_
    refine cr_callSI (rest := []) C w h (va_cwS 1 hts (lw_S q247 q248 q82 q249) rfl rfl rfl C_isCorner_d ⟨Nat.le_of_ble_eq_true rfl, Nat.le_of_ble_eq_true rfl⟩) rfl hl.1 rfl (Nat.le_of_ble_eq_true rfl) ⟨Nat.le_of_ble_eq_true rfl, Nat.le_of_ble_eq_true rfl⟩ dX0_open_9 (fun r2 S2 H locs h w => ?_)
    obtain ⟨h1, h2⟩ := h
    refine lv_if_ne (tgt := 18) hx hb dX0_open_12 (by decide) (fun c1 => ?_) (fun c1 => ?_)
    · have h := h1 c1
      refine lv_aload_n hx hb dX0_open_18 rfl (lv_at hl 0 rfl) ?_
      refine cr_get C w 0 rfl rfl in_X0 0 (by decide) q162 rfl rfl dX0_open_19 ?_
      refine lv_iload_n hx hb dX0_open_22 rfl (lv_at hl 1 rfl) ?_
      obtain ⟨hi, h⟩ := h
      have hj3 := vp_lt hi
      refine cr_gout C w hi dX0_open_23 ?_
      refine lv_iload_n hx hb dX0_open_24 rfl (lv_at hl 2 rfl) ?_
      obtain ⟨hi, h⟩ := h
      refine cr_gin C w hj3 hi dX0_open_25 ?_
      refine lv_astore_nQ (lv' := [(3, va_rf _), (0, .ref _), (1, .int _), (2, .int _)]) hx hb dX0_open_26 rfl hl (by decide) rfl (fun ls hl => ?_)
      refine lv_aload_nQ hx hb dX0_open_27 rfl (lv_at hl 0 rfl) ?_
      obtain ⟨h1, h2⟩ := h
      refine lv_ifnonnullQ (tgt := 34) hx hb dX0_open_28 (by decide) (fun g4 c1 => ?_) (fun c1 => ?_)
      · have h := h1 g4 c1
        rw [c1] at hl
        refine lv_aload_n hx hb dX0_open_34 rfl (lv_at hl 1 rfl) ?_
        refine cr_get C w 0 rfl rfl in_X0 0 (by decide) q162 rfl rfl dX0_open_35 ?_
        refine lv_iload_n hx hb dX0_open_38 rfl (lv_at hl 2 rfl) ?_
        obtain ⟨hi, h⟩ := h
        have hj5 := vp_lt hi
        refine cr_gout C w hi dX0_open_39 ?_
        refine lv_iload_n hx hb dX0_open_40 rfl (lv_at hl 3 rfl) ?_
        refine lv_null hx hb dX0_open_41 ?_
        obtain ⟨hi, h⟩ := h
        refine cr_gstN C w hj5 hi dX0_open_42 (fun H locs w => ?_)
        refine lv_aload_n hx hb dX0_open_43 rfl (lv_at hl 1 rfl) ?_
        refine cr_get C w 0 rfl rfl in_X0 0 (by decide) q162 rfl rfl dX0_open_44 ?_
        refine lv_aload_n hx hb dX0_open_47 rfl (lv_at hl 0 rfl) ?_
        obtain ⟨hpk, h⟩ := h
        refine cr_getGp C w hpk nwF_RX0_116 dX0_open_48 ?_
        obtain ⟨hi, h⟩ := h
        have hj7 := vp_lt hi
        refine cr_gout C w hi dX0_open_51 ?_
        refine lv_aload_n hx hb dX0_open_52 rfl (lv_at hl 0 rfl) ?_
        obtain ⟨hpk, h⟩ := h
        refine cr_getGs C w hpk nwF_RX0_119 dX0_open_53 ?_
        refine lv_null hx hb dX0_open_56 ?_
        obtain ⟨hi, h⟩ := h
        refine cr_gstN C w hj7 hi dX0_open_57 (fun H locs w => ?_)
        refine lv_aload_n hx hb dX0_open_58 rfl (lv_at hl 1 rfl) ?_
        refine cr_callVV (rest := []) (b := (fun o => o 0)) C w h (recv0 w) (cwV 0 hts (lw_V q232 q234 qs0 q82 q235) rfl rfl rfl C_changed_d ⟨Nat.le_of_ble_eq_true rfl, Nat.le_of_ble_eq_true rfl⟩) rfl hl.1 rfl (Nat.le_of_ble_eq_true rfl) ⟨Nat.le_of_ble_eq_true rfl, Nat.le_of_ble_eq_true rfl⟩ dX0_open_59 (fun S9 H locs h w => ?_)
        refine lv_iconst (v := 1) hx hb dX0_open_62 (by decide) ?_
        exact cr_iret C w h (Nat.le_of_ble_eq_true rfl) (Nat.le_of_ble_eq_true rfl) dX0_open_63
      · have h := h2 c1
        refine lv_bipush (v := -3) hx hb dX0_open_31 (by decide) ?_
        exact cr_iret C w h (Nat.le_of_ble_eq_true rfl) (Nat.le_of_ble_eq_true rfl) dX0_open_33
    · have h := h2 c1
      exact C_open_a15 C h (lv_sub hl [0] rfl) w
def C_open_VC (x1 : Int32) (x2 : Int32) (S : CS) (post : Int32 → CS → Prop) : Prop := C_open_w0 post x1 x2 S
theorem C_open_ok {x1 : Int32} {x2 : Int32} {S : CS} {post : Int32 → CS → Prop} (h : C_open_VC x1 x2 S post) : C_open x1 x2 S post := by
  intro l D dA o sz
  refine cr_start (fun A => va_Qi post (cB D dA o A) A) rfl (Nat.le_of_ble_eq_true rfl) (by decide) ?_
  intro p e s m args below meth c ls A C w hl
  have hl : lv_has ls 4 [(0, .ref (o 0)), (1, .int x1), (2, .int x2)] := hl
  exact C_open_a0 C h (lv_sub hl [0, 1, 2] rfl) w

/-! ThirdSheets.clear()I -/
def C_clear_w0 (post : Int32 → CS → Prop) (S : CS) : Prop :=
  (fun (S1 : CS) => C_drop S1 (fun (r2 : Int32) (S2 : CS) => C_changed S2 (fun (S3 : CS) => post (kF S 1) S3))) (tF S 1 (0 : Int32))
set_option maxHeartbeats 4000000 in
set_option maxRecDepth 100000 in
theorem C_clear_a0 {p : Program} {l : Launch} {e : Env} {s : State} {m : MethodId} {args : Array Value} {below : List Frame} {meth : Method} {c : Code} {D : va_G} {dA : Nat → ClassId} {o : Nat → Nat} {A : Nat → Prop} {post : Int32 → CS → Prop} (C : cC RX0 p m c cX0_clear 3 s args meth (Option.some Jvm.ClassFile.FieldType.int) A) {S : CS} (h : C_clear_w0 post S) {H : Heap} {locs : List Loc} {ls : Array Slot} (hl : lv_has ls 3 [(0, .ref (o 0))]) (w : cw D dA o A s S H locs) : W p l e (rC_clear) s m args below meth c H locs 0 0 (cQi below args s D dA o A (rC_clear) post) (F0 m 0 ls []) := by
  unfold C_clear_w0 at h
  obtain ⟨⟨hx, hb, hml, hown, hts⟩, hr, hlk, hA⟩ := id C
  refine lv_aload_n hx hb dX0_clear_0 rfl (lv_at hl 0 rfl) ?_
  refine cr_get C w 0 rfl rfl in_X0 1 (by decide) q164 rfl rfl dX0_clear_1 ?_
  refine lv_istore_n (lv' := [(1, .int _), (0, .ref _)]) hx hb dX0_clear_4 rfl hl (by decide) rfl (fun ls hl => ?_)
  refine lv_aload_n hx hb dX0_clear_5 rfl (lv_at hl 1 rfl) ?_
  refine lv_iconst (v := 0) hx hb dX0_clear_6 (by decide) ?_
  refine cr_put (ty := .int) C w 1 (by decide) q164 rfl rfl (by decide +kernel) rfl rfl CWf_1 dX0_clear_7 (fun H locs w => ?_)
  refine lv_aload_n hx hb dX0_clear_10 rfl (lv_at hl 1 rfl) ?_
  refine cr_callVI (rest := []) (b := (fun o => o 0)) C w h (recv0 w) (cwV 0 hts (lw_V q228 q229 q230 q82 q231) rfl rfl rfl C_drop_d ⟨Nat.le_of_ble_eq_true rfl, Nat.le_of_ble_eq_true rfl⟩) rfl hl.1 rfl (Nat.le_of_ble_eq_true rfl) ⟨Nat.le_of_ble_eq_true rfl, Nat.le_of_ble_eq_true rfl⟩ dX0_clear_11 (fun r2 S2 H locs h w => ?_)
  refine lv_istore_n (lv' := [(2, .int _), (1, .int _), (0, .ref _)]) hx hb dX0_clear_14 rfl hl (by decide) rfl (fun ls hl => ?_)
  refine lv_aload_n hx hb dX0_clear_15 rfl (lv_at hl 2 rfl) ?_
  refine cr_callVV (rest := []) (b := (fun o => o 0)) C w h (recv0 w) (cwV 0 hts (lw_V q232 q234 qs0 q82 q235) rfl rfl rfl C_changed_d ⟨Nat.le_of_ble_eq_true rfl, Nat.le_of_ble_eq_true rfl⟩) rfl hl.1 rfl (Nat.le_of_ble_eq_true rfl) ⟨Nat.le_of_ble_eq_true rfl, Nat.le_of_ble_eq_true rfl⟩ dX0_clear_16 (fun S3 H locs h w => ?_)
  refine lv_iload_n hx hb dX0_clear_19 rfl (lv_at hl 1 rfl) ?_
  exact cr_iret C w h (Nat.le_of_ble_eq_true rfl) (Nat.le_of_ble_eq_true rfl) dX0_clear_20
def C_clear_VC (S : CS) (post : Int32 → CS → Prop) : Prop := C_clear_w0 post S
theorem C_clear_ok {S : CS} {post : Int32 → CS → Prop} (h : C_clear_VC S post) : C_clear S post := by
  intro l D dA o sz
  refine cr_start (fun A => va_Qi post (cB D dA o A) A) rfl (Nat.le_of_ble_eq_true rfl) (by decide) ?_
  intro p e s m args below meth c ls A C w hl
  have hl : lv_has ls 3 [(0, .ref (o 0))] := hl
  exact C_clear_a0 C h (lv_sub hl [0] rfl) w

/-! ThirdSheets.across(III)I -/
def C_across_w63 (post : Int32 → CS → Prop) (v0 : Int32) (S : CS) : Prop :=
  post v0 S
set_option maxHeartbeats 4000000 in
set_option maxRecDepth 100000 in
theorem C_across_a63 {p : Program} {l : Launch} {e : Env} {s : State} {m : MethodId} {args : Array Value} {below : List Frame} {meth : Method} {c : Code} {D : va_G} {dA : Nat → ClassId} {o : Nat → Nat} {A : Nat → Prop} {post : Int32 → CS → Prop} (C : cC RX0 p m c cX0_across 5 s args meth (Option.some Jvm.ClassFile.FieldType.int) A) {v0 : Int32} {S : CS} (h : C_across_w63 post v0 S) {H : Heap} {locs : List Loc} {ls : Array Slot} (hl : lv_has ls 5 [(0, .ref (o 0))]) (w : cw D dA o A s S H locs) : W p l e (rC_across) s m args below meth c H locs 0 0 (cQi below args s D dA o A (rC_across) post) (F0 m 63 ls [.int v0]) := by
  unfold C_across_w63 at h
  obtain ⟨⟨hx, hb, hml, hown, hts⟩, hr, hlk, hA⟩ := id C
  exact cr_iret C w h (Nat.le_of_ble_eq_true rfl) (Nat.le_of_ble_eq_true rfl) dX0_across_63
def C_across_w24 (post : Int32 → CS → Prop) (S : CS) : Prop :=
  post (-2 : Int32) S
set_option maxHeartbeats 4000000 in
set_option maxRecDepth 100000 in
theorem C_across_a24 {p : Program} {l : Launch} {e : Env} {s : State} {m : MethodId} {args : Array Value} {below : List Frame} {meth : Method} {c : Code} {D : va_G} {dA : Nat → ClassId} {o : Nat → Nat} {A : Nat → Prop} {post : Int32 → CS → Prop} (C : cC RX0 p m c cX0_across 5 s args meth (Option.some Jvm.ClassFile.FieldType.int) A) {S : CS} (h : C_across_w24 post S) {H : Heap} {locs : List Loc} {ls : Array Slot} (hl : lv_has ls 5 [(0, .ref (o 0))]) (w : cw D dA o A s S H locs) : W p l e (rC_across) s m args below meth c H locs 0 0 (cQi below args s D dA o A (rC_across) post) (F0 m 24 ls []) := by
  unfold C_across_w24 at h
  obtain ⟨⟨hx, hb, hml, hown, hts⟩, hr, hlk, hA⟩ := id C
  refine lv_bipush (v := -2) hx hb dX0_across_24 (by decide) ?_
  exact cr_iret C w h (Nat.le_of_ble_eq_true rfl) (Nat.le_of_ble_eq_true rfl) dX0_across_26
def C_across_w0 (post : Int32 → CS → Prop) (x1 : Int32) (x2 : Int32) (x3 : Int32) (S : CS) : Prop :=
  C_isPiece x1 S (fun (r1 : Int32) (S1 : CS) => ((r1 = 0 → C_across_w24 post S1) ∧ (¬ r1 = 0 → C_isCorner x2 S1 (fun (r2 : Int32) (S2 : CS) => ((r2 = 0 → C_across_w24 post S2) ∧ (¬ r2 = 0 → C_isIn x3 (0 : Int32) (1 : Int32) S2 (fun (r3 : Int32) (S3 : CS) => ((¬ r3 = 0 → (vp_in x1 3 ∧ (vp_in x2 4 ∧ ((∀ g5 : Nat, (kGl S3 ((x1).toNatClampNeg) (x2).toNatClampNeg) = some g5 → ((¬ x3 = 0 → (pk S3 g5 0 ∧ C_across_w63 post (kG S3 g5).2.1 S3)) ∧ (x3 = 0 → (pk S3 g5 0 ∧ C_across_w63 post (kG S3 g5).1 S3)))) ∧ ((kGl S3 ((x1).toNatClampNeg) (x2).toNatClampNeg) = none → C_across_w63 post (-1 : Int32) S3))))) ∧ (r3 = 0 → C_across_w24 post S3)))))))))
set_option maxHeartbeats 4000000 in
set_option maxRecDepth 100000 in
theorem C_across_a0 {p : Program} {l : Launch} {e : Env} {s : State} {m : MethodId} {args : Array Value} {below : List Frame} {meth : Method} {c : Code} {D : va_G} {dA : Nat → ClassId} {o : Nat → Nat} {A : Nat → Prop} {post : Int32 → CS → Prop} (C : cC RX0 p m c cX0_across 5 s args meth (Option.some Jvm.ClassFile.FieldType.int) A) {x1 : Int32} {x2 : Int32} {x3 : Int32} {S : CS} (h : C_across_w0 post x1 x2 x3 S) {H : Heap} {locs : List Loc} {ls : Array Slot} (hl : lv_has ls 5 [(0, .ref (o 0)), (1, .int x1), (2, .int x2), (3, .int x3)]) (w : cw D dA o A s S H locs) : W p l e (rC_across) s m args below meth c H locs 0 0 (cQi below args s D dA o A (rC_across) post) (F0 m 0 ls []) := by
  unfold C_across_w0 at h
  obtain ⟨⟨hx, hb, hml, hown, hts⟩, hr, hlk, hA⟩ := id C
  refine lv_aload_n hx hb dX0_across_0 rfl (lv_at hl 0 rfl) ?_
  refine lv_iload_n hx hb dX0_across_1 rfl (lv_at hl 1 rfl) ?_
  refine cr_callVI (rest := []) (b := (fun o => o 0)) C w h (recv0 w) (cwV 1 hts (lw_V q240 q242 qs1 q82 q243) rfl rfl rfl C_isPiece_d ⟨Nat.le_of_ble_eq_true rfl, Nat.le_of_ble_eq_true rfl⟩) rfl hl.1 rfl (Nat.le_of_ble_eq_true rfl) ⟨Nat.le_of_ble_eq_true rfl, Nat.le_of_ble_eq_true rfl⟩ dX0_across_2 (fun r1 S1 H locs h w => ?_)
  obtain ⟨h1, h2⟩ := h
  refine lv_if_eq (tgt := 24) hx hb dX0_across_5 (by decide) (fun c1 => ?_) (fun c1 => ?_)
  · have h := h1 c1
    exact C_across_a24 C h (lv_sub hl [0] rfl) w
  · have h := h2 c1
    refine lv_iload_n hx hb dX0_across_8 rfl (lv_at hl 2 rfl) ?_
    refine cr_callSI (rest := []) C w h (va_cwS 1 hts (lw_S q247 q248 q82 q249) rfl rfl rfl C_isCorner_d ⟨Nat.le_of_ble_eq_true rfl, Nat.le_of_ble_eq_true rfl⟩) rfl hl.1 rfl (Nat.le_of_ble_eq_true rfl) ⟨Nat.le_of_ble_eq_true rfl, Nat.le_of_ble_eq_true rfl⟩ dX0_across_9 (fun r2 S2 H locs h w => ?_)
    obtain ⟨h1, h2⟩ := h
    refine lv_if_eq (tgt := 24) hx hb dX0_across_12 (by decide) (fun c1 => ?_) (fun c1 => ?_)
    · have h := h1 c1
      exact C_across_a24 C h (lv_sub hl [0] rfl) w
    · have h := h2 c1
      refine lv_iload_n hx hb dX0_across_15 rfl (lv_at hl 3 rfl) ?_
      refine lv_iconst (v := 0) hx hb dX0_across_16 (by decide) ?_
      refine lv_iconst (v := 1) hx hb dX0_across_17 (by decide) ?_
      refine cr_callSI (rest := []) C w h (va_cwS 3 hts (lw_S q244 q245 q82 q246) rfl rfl rfl C_isIn_d ⟨Nat.le_of_ble_eq_true rfl, Nat.le_of_ble_eq_true rfl⟩) rfl hl.1 rfl (Nat.le_of_ble_eq_true rfl) ⟨Nat.le_of_ble_eq_true rfl, Nat.le_of_ble_eq_true rfl⟩ dX0_across_18 (fun r3 S3 H locs h w => ?_)
      obtain ⟨h1, h2⟩ := h
      refine lv_if_ne (tgt := 27) hx hb dX0_across_21 (by decide) (fun c1 => ?_) (fun c1 => ?_)
      · have h := h1 c1
        refine lv_aload_n hx hb dX0_across_27 rfl (lv_at hl 0 rfl) ?_
        refine cr_get C w 0 rfl rfl in_X0 0 (by decide) q162 rfl rfl dX0_across_28 ?_
        refine lv_iload_n hx hb dX0_across_31 rfl (lv_at hl 1 rfl) ?_
        obtain ⟨hi, h⟩ := h
        have hj4 := vp_lt hi
        refine cr_gout C w hi dX0_across_32 ?_
        refine lv_iload_n hx hb dX0_across_33 rfl (lv_at hl 2 rfl) ?_
        obtain ⟨hi, h⟩ := h
        refine cr_gin C w hj4 hi dX0_across_34 ?_
        refine lv_astoreQ (lv' := [(4, va_rf _), (0, .ref _), (1, .int _), (2, .int _), (3, .int _)]) hx hb dX0_across_35 hl (by decide) rfl (fun ls hl => ?_)
        refine lv_aloadQ hx hb dX0_across_37 (lv_at hl 0 rfl) ?_
        obtain ⟨h1, h2⟩ := h
        refine lv_ifnonnullQ (tgt := 46) hx hb dX0_across_39 (by decide) (fun g5 c1 => ?_) (fun c1 => ?_)
        · have h := h1 g5 c1
          rw [c1] at hl
          refine lv_iload_n hx hb dX0_across_46 rfl (lv_at hl 4 rfl) ?_
          obtain ⟨h1, h2⟩ := h
          refine lv_if_ne (tgt := 58) hx hb dX0_across_47 (by decide) (fun c1 => ?_) (fun c1 => ?_)
          · have h := h1 c1
            refine lv_aload hx hb dX0_across_58 (lv_at hl 0 rfl) ?_
            obtain ⟨hpk, h⟩ := h
            refine cr_getGs C w hpk nwF_RX0_119 dX0_across_60 ?_
            exact C_across_a63 C h (lv_sub hl [1] rfl) w
          · have h := h2 c1
            refine lv_aload hx hb dX0_across_50 (lv_at hl 0 rfl) ?_
            obtain ⟨hpk, h⟩ := h
            refine cr_getGp C w hpk nwF_RX0_116 dX0_across_52 ?_
            refine lv_goto (tgt := 63) hx hb dX0_across_55 (by decide) ?_
            exact C_across_a63 C h (lv_sub hl [1] rfl) w
        · have h := h2 c1
          refine lv_iconst (v := -1) hx hb dX0_across_42 (by decide) ?_
          refine lv_goto (tgt := 63) hx hb dX0_across_43 (by decide) ?_
          exact C_across_a63 C h (lv_sub hl [1] rfl) w
      · have h := h2 c1
        exact C_across_a24 C h (lv_sub hl [0] rfl) w
def C_across_VC (x1 : Int32) (x2 : Int32) (x3 : Int32) (S : CS) (post : Int32 → CS → Prop) : Prop := C_across_w0 post x1 x2 x3 S
theorem C_across_ok {x1 : Int32} {x2 : Int32} {x3 : Int32} {S : CS} {post : Int32 → CS → Prop} (h : C_across_VC x1 x2 x3 S post) : C_across x1 x2 x3 S post := by
  intro l D dA o sz
  refine cr_start (fun A => va_Qi post (cB D dA o A) A) rfl (Nat.le_of_ble_eq_true rfl) (by decide) ?_
  intro p e s m args below meth c ls A C w hl
  have hl : lv_has ls 5 [(0, .ref (o 0)), (1, .int x1), (2, .int x2), (3, .int x3)] := hl
  exact C_across_a0 C h (lv_sub hl [0, 1, 2, 3] rfl) w

/-! ThirdSheets$Corners.across(IILThirdSheets$Glue;)I -/
def C_acrossS2_w15 (post : Int32 → CS → Prop) (v0 : Int32) (S : CS) : Prop :=
  post v0 S
set_option maxHeartbeats 4000000 in
set_option maxRecDepth 100000 in
theorem C_acrossS2_a15 {p : Program} {l : Launch} {e : Env} {s : State} {m : MethodId} {args : Array Value} {below : List Frame} {meth : Method} {c : Code} {D : va_G} {dA : Nat → ClassId} {o : Nat → Nat} {A : Nat → Prop} {post : Int32 → CS → Prop} (C : cC RX2 p m c cX2_across 4 s args meth (Option.some Jvm.ClassFile.FieldType.int) A) {v0 : Int32} {S : CS} (h : C_acrossS2_w15 post v0 S) {H : Heap} {locs : List Loc} {ls : Array Slot} (hl : lv_has ls 4 [(0, .ref (o 2))]) (w : cw D dA o A s S H locs) : W p l e (rC_acrossS2) s m args below meth c H locs 0 0 (cQi below args s D dA o A (rC_acrossS2) post) (F0 m 15 ls [.int v0]) := by
  unfold C_acrossS2_w15 at h
  obtain ⟨⟨hx, hb, hml, hown, hts⟩, hr, hlk, hA⟩ := id C
  exact cr_iret C w h (Nat.le_of_ble_eq_true rfl) (Nat.le_of_ble_eq_true rfl) dX2_across_15
def C_acrossS2_w0 (post : Int32 → CS → Prop) (x1 : Int32) (x2 : Int32) (a3 : Nat) (S : CS) : Prop :=
  ((¬ x1 = x2 → (pk S a3 0 ∧ (pk S (kG S a3).2.2 1 ∧ vp_in x1 (kN S (kG S a3).2.2) ∧ C_acrossS2_w15 post (kT S (kG S a3).2.2 (x1).toNatClampNeg) S))) ∧ (x1 = x2 → C_acrossS2_w15 post (-1 : Int32) S))
set_option maxHeartbeats 4000000 in
set_option maxRecDepth 100000 in
theorem C_acrossS2_a0 {p : Program} {l : Launch} {e : Env} {s : State} {m : MethodId} {args : Array Value} {below : List Frame} {meth : Method} {c : Code} {D : va_G} {dA : Nat → ClassId} {o : Nat → Nat} {A : Nat → Prop} {post : Int32 → CS → Prop} (C : cC RX2 p m c cX2_across 4 s args meth (Option.some Jvm.ClassFile.FieldType.int) A) {x1 : Int32} {x2 : Int32} {a3 : Nat} {S : CS} (h : C_acrossS2_w0 post x1 x2 a3 S) {H : Heap} {locs : List Loc} {ls : Array Slot} (hl : lv_has ls 4 [(0, .ref (o 2)), (1, .int x1), (2, .int x2), (3, .ref a3)]) (w : cw D dA o A s S H locs) : W p l e (rC_acrossS2) s m args below meth c H locs 0 0 (cQi below args s D dA o A (rC_acrossS2) post) (F0 m 0 ls []) := by
  unfold C_acrossS2_w0 at h
  obtain ⟨⟨hx, hb, hml, hown, hts⟩, hr, hlk, hA⟩ := id C
  refine lv_iload_n hx hb dX2_across_0 rfl (lv_at hl 1 rfl) ?_
  refine lv_iload_n hx hb dX2_across_1 rfl (lv_at hl 2 rfl) ?_
  obtain ⟨h1, h2⟩ := h
  refine lv_icmp_ne (tgt := 9) hx hb dX2_across_2 (by decide) (fun c1 => ?_) (fun c1 => ?_)
  · have h := h1 c1
    refine lv_aload_n hx hb dX2_across_9 rfl (lv_at hl 3 rfl) ?_
    obtain ⟨hpk, h⟩ := h
    refine cr_getGt C w hpk nwF_RX2_15 dX2_across_10 ?_
    refine lv_iload_n hx hb dX2_across_13 rfl (lv_at hl 1 rfl) ?_
    obtain ⟨hpk, hi, h⟩ := h
    refine cr_tald C w hpk hi dX2_across_14 ?_
    exact C_acrossS2_a15 C h (lv_sub hl [0] rfl) w
  · have h := h2 c1
    refine lv_iconst (v := -1) hx hb dX2_across_5 (by decide) ?_
    refine lv_goto (tgt := 15) hx hb dX2_across_6 (by decide) ?_
    exact C_acrossS2_a15 C h (lv_sub hl [0] rfl) w
def C_acrossS2_VC (x1 : Int32) (x2 : Int32) (a3 : Nat) (S : CS) (post : Int32 → CS → Prop) : Prop := C_acrossS2_w0 post x1 x2 a3 S
theorem C_acrossS2_ok {x1 : Int32} {x2 : Int32} {a3 : Nat} {S : CS} {post : Int32 → CS → Prop} (h : C_acrossS2_VC x1 x2 a3 S post) : C_acrossS2 x1 x2 a3 S post := by
  intro l D dA o sz
  refine cr_start (fun A => va_Qi post (cB D dA o A) A) rfl (Nat.le_of_ble_eq_true rfl) (by decide) ?_
  intro p e s m args below meth c ls A C w hl
  have hl : lv_has ls 4 [(0, .ref (o 2)), (1, .int x1), (2, .int x2), (3, .ref a3)] := hl
  exact C_acrossS2_a0 C h (lv_sub hl [0, 1, 2, 3] rfl) w

/-! ThirdSheets$Sort.spread(II)V -/
def C_spreadS2_w102 (dd : Nat) (post : CS → Prop) (T9 : Int32 → Int32 → Int32 → CS → Prop) (x1 : Int32) (x2 : Int32) (x3 : Int32) (S : CS) : Prop :=
  T9 x1 x2 (x3 + (1 : Int32)) S
set_option maxHeartbeats 4000000 in
set_option maxRecDepth 100000 in
theorem C_spreadS2_a102 {p : Program} {l : Launch} {e : Env} {s : State} {m : MethodId} {args : Array Value} {below : List Frame} {meth : Method} {c : Code} {D : va_G} {dA : Nat → ClassId} {o : Nat → Nat} {A : Nat → Prop} {dd : Nat} {post : CS → Prop} {T9 : Int32 → Int32 → Int32 → CS → Prop} (C : cC RX1 p m c cX1_spread 6 s args meth (Option.none : Option Jvm.ClassFile.FieldType) A) (hT9 : ∀ (x1 : Int32) (x2 : Int32) (x3 : Int32) (S : CS), T9 x1 x2 x3 S → ∀ (H : Heap) (locs : List Loc) (ls : Array Slot), lv_has ls 6 [(0, .ref (o 2)), (1, .int x1), (2, .int x2), (3, .int x3)] → cw D dA o A s S H locs → W p l e (rC_spreadS2 (dd + 1)) s m args below meth c H locs 0 0 (cQv below args s D dA o A (rC_spreadS2 (dd + 1)) post) (F0 m 9 ls [])) {x1 : Int32} {x2 : Int32} {x3 : Int32} {S : CS} (h : C_spreadS2_w102 dd post T9 x1 x2 x3 S) {H : Heap} {locs : List Loc} {ls : Array Slot} (hl : lv_has ls 6 [(0, .ref (o 2)), (1, .int x1), (2, .int x2), (3, .int x3)]) (w : cw D dA o A s S H locs) : W p l e (rC_spreadS2 (dd + 1)) s m args below meth c H locs 0 0 (cQv below args s D dA o A (rC_spreadS2 (dd + 1)) post) (F0 m 102 ls []) := by
  unfold C_spreadS2_w102 at h
  obtain ⟨⟨hx, hb, hml, hown, hts⟩, hr, hlk, hA⟩ := id C
  refine lv_iinc (v := _ + (1 : Int32)) (lv' := [(3, .int _), (0, .ref _), (1, .int _), (2, .int _)]) hx hb dX1_spread_102 hl (k := 3) rfl rfl (by decide) rfl (fun ls hl => ?_)
  refine lv_goto (tgt := 9) hx hb dX1_spread_105 (by decide) ?_
  exact hT9 _ _ _ _ h _ _ _ (lv_sub hl [1, 2, 3, 0] rfl) w
def C_spreadS2_w54 (dd : Nat) (post : CS → Prop) (T9 : Int32 → Int32 → Int32 → CS → Prop) (v0 : Int32) (x1 : Int32) (x2 : Int32) (x3 : Int32) (y4 : Option Nat) (S : CS) : Prop :=
  ((v0 = (-1 : Int32) → C_spreadS2_w102 dd post T9 x1 x2 x3 S) ∧ (¬ v0 = (-1 : Int32) → (∃ g1 : Nat, y4 = some g1 ∧ pk S g1 0 ∧ (vp_in (((kG S g1).1 * (4 : Int32)) + v0) 12 ∧ ((¬ (kI S 32 ((((kG S g1).1 * (4 : Int32)) + v0)).toNatClampNeg) = (-1 : Int32) → C_spreadS2_w102 dd post T9 x1 x2 x3 S) ∧ ((kI S 32 ((((kG S g1).1 * (4 : Int32)) + v0)).toNatClampNeg) = (-1 : Int32) → (∃ g2 : Nat, y4 = some g2 ∧ pk S g2 0 ∧ C_spreadS2 dd (((kG S g2).1 * (4 : Int32)) + v0) x2 S (fun (S3 : CS) => C_spreadS2_w102 dd post T9 x1 x2 x3 S3))))))))
set_option maxHeartbeats 4000000 in
set_option maxRecDepth 100000 in
theorem C_spreadS2_a54 {p : Program} {l : Launch} {e : Env} {s : State} {m : MethodId} {args : Array Value} {below : List Frame} {meth : Method} {c : Code} {D : va_G} {dA : Nat → ClassId} {o : Nat → Nat} {A : Nat → Prop} {dd : Nat} {post : CS → Prop} {T9 : Int32 → Int32 → Int32 → CS → Prop} (C : cC RX1 p m c cX1_spread 6 s args meth (Option.none : Option Jvm.ClassFile.FieldType) A) (hT9 : ∀ (x1 : Int32) (x2 : Int32) (x3 : Int32) (S : CS), T9 x1 x2 x3 S → ∀ (H : Heap) (locs : List Loc) (ls : Array Slot), lv_has ls 6 [(0, .ref (o 2)), (1, .int x1), (2, .int x2), (3, .int x3)] → cw D dA o A s S H locs → W p l e (rC_spreadS2 (dd + 1)) s m args below meth c H locs 0 0 (cQv below args s D dA o A (rC_spreadS2 (dd + 1)) post) (F0 m 9 ls [])) {v0 : Int32} {x1 : Int32} {x2 : Int32} {x3 : Int32} {y4 : Option Nat} {S : CS} (h : C_spreadS2_w54 dd post T9 v0 x1 x2 x3 y4 S) {H : Heap} {locs : List Loc} {ls : Array Slot} (hl : lv_has ls 6 [(0, .ref (o 2)), (1, .int x1), (2, .int x2), (3, .int x3), (4, va_rf y4)]) (w : cw D dA o A s S H locs) : W p l e (rC_spreadS2 (dd + 1)) s m args below meth c H locs 0 0 (cQv below args s D dA o A (rC_spreadS2 (dd + 1)) post) (F0 m 54 ls [.int v0]) := by
  unfold C_spreadS2_w54 at h
  obtain ⟨⟨hx, hb, hml, hown, hts⟩, hr, hlk, hA⟩ := id C
  refine lv_istore (lv' := [(5, .int _), (0, .ref _), (1, .int _), (2, .int _), (3, .int _), (4, va_rf _)]) hx hb dX1_spread_54 hl (by decide) ((congrArg (List.cons _) (lv_filtC (by intro q hq hq1; simp only [List.mem_cons, List.not_mem_nil, or_false] at hq; rcases hq with rfl | rfl | rfl | rfl | rfl <;> first | exact va_rf_cat _ | (exfalso; simp at hq1)))).trans rfl) (fun ls hl => ?_)
  refine lv_iload hx hb dX1_spread_56 (lv_at hl 0 rfl) ?_
  refine lv_iconst (v := -1) hx hb dX1_spread_58 (by decide) ?_
  obtain ⟨h1, h2⟩ := h
  refine lv_icmp_eq (tgt := 102) hx hb dX1_spread_59 (by decide) (fun c1 => ?_) (fun c1 => ?_)
  · have h := h1 c1
    exact C_spreadS2_a102 C hT9 h (lv_sub hl [1, 2, 3, 4] rfl) w
  · have h := h2 c1
    refine lv_aload_n hx hb dX1_spread_62 rfl (lv_at hl 1 rfl) ?_
    refine cr_get C w 1 rfl rfl in_X2' 1 (by decide) q114 rfl rfl dX1_spread_63 ?_
    refine lv_aloadQ hx hb dX1_spread_66 (lv_at hl 5 rfl) ?_
    obtain ⟨g1, hg, hpk, h⟩ := h
    refine cr_opt hg ?_
    refine cr_getGp C w hpk nwF_RX1_41 dX1_spread_68 ?_
    refine lv_aload_n hx hb dX1_spread_71 rfl (lv_at hl 1 rfl) ?_
    refine cr_get C w 1 rfl rfl in_X2' 0 (by decide) q113 rfl rfl dX1_spread_72 ?_
    refine lv_imul hx hb dX1_spread_75 ?_
    refine lv_iload hx hb dX1_spread_76 (lv_at hl 0 rfl) ?_
    refine lv_iadd hx hb dX1_spread_78 ?_
    obtain ⟨hi, h⟩ := h
    refine cr_iald C w 14 rfl hi dX1_spread_79 ?_
    refine lv_iconst (v := -1) hx hb dX1_spread_80 (by decide) ?_
    obtain ⟨h1, h2⟩ := h
    refine lv_icmp_ne (tgt := 102) hx hb dX1_spread_81 (by decide) (fun c1 => ?_) (fun c1 => ?_)
    · have h := h1 c1
      exact C_spreadS2_a102 C hT9 h (lv_sub hl [1, 2, 3, 4] rfl) w
    · have h := h2 c1
      refine lv_aload_n hx hb dX1_spread_84 rfl (lv_at hl 1 rfl) ?_
      refine lv_aloadQ hx hb dX1_spread_85 (lv_at hl 5 rfl) ?_
      obtain ⟨g2, hg, hpk, h⟩ := h
      refine cr_opt hg ?_
      refine cr_getGp C w hpk nwF_RX1_41 dX1_spread_87 ?_
      refine lv_aload_n hx hb dX1_spread_90 rfl (lv_at hl 1 rfl) ?_
      refine cr_get C w 1 rfl rfl in_X2' 0 (by decide) q113 rfl rfl dX1_spread_91 ?_
      refine lv_imul hx hb dX1_spread_94 ?_
      refine lv_iload hx hb dX1_spread_95 (lv_at hl 0 rfl) ?_
      refine lv_iadd hx hb dX1_spread_97 ?_
      refine lv_iload_n hx hb dX1_spread_98 rfl (lv_at hl 3 rfl) ?_
      refine cr_callUV (owner := RX1) (rest := []) (b := fun o => o 2) C w h (recv2 w) (cr_cuSpread C w nwS_2 2 q295 q935 q297 q83 q298 rfl rfl (by decide +kernel) ⟨by show 1 + dd + 1 ≤ 1 + (dd + 1); omega, by show 8 + (6 + 11) + (23 + 25 * dd) ≤ 23 + 25 * (dd + 1); omega⟩) rfl hl.1 rfl (Nat.le_of_ble_eq_true rfl) ⟨Nat.le_of_ble_eq_true rfl, Nat.le_of_ble_eq_true rfl⟩ dX1_spread_99 (fun S3 H locs h w => ?_)
      exact C_spreadS2_a102 C hT9 h (lv_sub hl [1, 2, 3, 4] rfl) w
def C_spreadS2_w9 (dd : Nat) (post : CS → Prop) (T9 : Int32 → Int32 → Int32 → CS → Prop) (x1 : Int32) (x2 : Int32) (x3 : Int32) (S : CS) : Prop :=
  (((4 : Int32) ≤ x3 → post S) ∧ (¬ (4 : Int32) ≤ x3 → (vp_in (x1 / (4 : Int32)) 3 ∧ (vp_in x3 4 ∧ ((∀ g2 : Nat, (kGl S (((x1 / (4 : Int32))).toNatClampNeg) (x3).toNatClampNeg) = some g2 → C_acrossS2 (x1 - x1 / (4 : Int32) * (4 : Int32)) x3 g2 S (fun (r3 : Int32) (S3 : CS) => C_spreadS2_w54 dd post T9 r3 x1 x2 x3 (some g2) S3)) ∧ ((kGl S (((x1 / (4 : Int32))).toNatClampNeg) (x3).toNatClampNeg) = none → C_spreadS2_w54 dd post T9 (-1 : Int32) x1 x2 x3 (kGl S (((x1 / (4 : Int32))).toNatClampNeg) (x3).toNatClampNeg) S))))))
set_option maxHeartbeats 4000000 in
set_option maxRecDepth 100000 in
theorem C_spreadS2_a9 {p : Program} {l : Launch} {e : Env} {s : State} {m : MethodId} {args : Array Value} {below : List Frame} {meth : Method} {c : Code} {D : va_G} {dA : Nat → ClassId} {o : Nat → Nat} {A : Nat → Prop} {dd : Nat} {post : CS → Prop} {T9 : Int32 → Int32 → Int32 → CS → Prop} (C : cC RX1 p m c cX1_spread 6 s args meth (Option.none : Option Jvm.ClassFile.FieldType) A) (hT9 : ∀ (x1 : Int32) (x2 : Int32) (x3 : Int32) (S : CS), T9 x1 x2 x3 S → ∀ (H : Heap) (locs : List Loc) (ls : Array Slot), lv_has ls 6 [(0, .ref (o 2)), (1, .int x1), (2, .int x2), (3, .int x3)] → cw D dA o A s S H locs → W p l e (rC_spreadS2 (dd + 1)) s m args below meth c H locs 0 0 (cQv below args s D dA o A (rC_spreadS2 (dd + 1)) post) (F0 m 9 ls [])) {x1 : Int32} {x2 : Int32} {x3 : Int32} {S : CS} (h : C_spreadS2_w9 dd post T9 x1 x2 x3 S) {H : Heap} {locs : List Loc} {ls : Array Slot} (hl : lv_has ls 6 [(0, .ref (o 2)), (1, .int x1), (2, .int x2), (3, .int x3)]) (w : cw D dA o A s S H locs) : W p l e (rC_spreadS2 (dd + 1)) s m args below meth c H locs 0 0 (cQv below args s D dA o A (rC_spreadS2 (dd + 1)) post) (F0 m 9 ls []) := by
  unfold C_spreadS2_w9 at h
  obtain ⟨⟨hx, hb, hml, hown, hts⟩, hr, hlk, hA⟩ := id C
  refine lv_iload_n hx hb dX1_spread_9 rfl (lv_at hl 3 rfl) ?_
  refine lv_iconst (v := 4) hx hb dX1_spread_10 (by decide) ?_
  obtain ⟨h1, h2⟩ := h
  refine lv_icmp_ge (tgt := 108) hx hb dX1_spread_11 (by decide) (fun c1 => ?_) (fun c1 => ?_)
  · have h := h1 c1
    exact cr_vret C w h (Nat.le_of_ble_eq_true rfl) (Nat.le_of_ble_eq_true rfl) dX1_spread_108
  · have h := h2 c1
    refine lv_aload_n hx hb dX1_spread_14 rfl (lv_at hl 0 rfl) ?_
    refine cr_get C w 1 rfl rfl in_X2' 3 (by decide) q118 rfl rfl dX1_spread_15 ?_
    refine cr_getN C w 0 rfl rfl in_X0 0 (by decide) nwF_RX1_33 rfl rfl dX1_spread_18 ?_
    refine lv_iload_n hx hb dX1_spread_21 rfl (lv_at hl 1 rfl) ?_
    refine lv_aload_n hx hb dX1_spread_22 rfl (lv_at hl 0 rfl) ?_
    refine cr_get C w 1 rfl rfl in_X2' 0 (by decide) q113 rfl rfl dX1_spread_23 ?_
    refine lv_idiv hx hb dX1_spread_26 (by decide) ?_
    obtain ⟨hi, h⟩ := h
    have hj1 := vp_lt hi
    refine cr_gout C w hi dX1_spread_27 ?_
    refine lv_iload_n hx hb dX1_spread_28 rfl (lv_at hl 3 rfl) ?_
    obtain ⟨hi, h⟩ := h
    refine cr_gin C w hj1 hi dX1_spread_29 ?_
    refine lv_astoreQ (lv' := [(4, va_rf _), (0, .ref _), (1, .int _), (2, .int _), (3, .int _)]) hx hb dX1_spread_30 hl (by decide) rfl (fun ls hl => ?_)
    refine lv_aloadQ hx hb dX1_spread_32 (lv_at hl 0 rfl) ?_
    obtain ⟨h1, h2⟩ := h
    refine lv_ifnonnullQ (tgt := 41) hx hb dX1_spread_34 (by decide) (fun g2 c1 => ?_) (fun c1 => ?_)
    · have h := h1 g2 c1
      rw [c1] at hl
      refine lv_aload_n hx hb dX1_spread_41 rfl (lv_at hl 1 rfl) ?_
      refine lv_iload_n hx hb dX1_spread_42 rfl (lv_at hl 2 rfl) ?_
      refine lv_aload_n hx hb dX1_spread_43 rfl (lv_at hl 1 rfl) ?_
      refine cr_get C w 1 rfl rfl in_X2' 0 (by decide) q113 rfl rfl dX1_spread_44 ?_
      refine lv_irem hx hb dX1_spread_47 (by decide) ?_
      refine lv_iload_n hx hb dX1_spread_48 rfl (lv_at hl 4 rfl) ?_
      refine lv_aload hx hb dX1_spread_49 (lv_at hl 0 rfl) ?_
      refine cr_callUI (owner := RX1) (rest := []) (b := fun o => o 2) C w h (recv2 w) (va_cwA 3 hts (lw_U q299 q301 q302 q303 q84 q304) rfl rfl rfl (w.2.2.2.2.1.1 _ nwD) (by decide +kernel) ⟨by show 0 + 1 ≤ 1 + (dd + 1); omega, by show 8 + (4 + 11) + 0 ≤ 23 + 25 * (dd + 1); omega⟩) rfl hl.1 rfl (Nat.le_of_ble_eq_true rfl) ⟨Nat.le_of_ble_eq_true rfl, Nat.le_of_ble_eq_true rfl⟩ dX1_spread_51 (fun r3 S3 H locs h w => ?_)
      exact C_spreadS2_a54 C hT9 h (lv_sub hl [1, 2, 3, 4, 0] rfl) w
    · have h := h2 c1
      refine lv_iconst (v := -1) hx hb dX1_spread_37 (by decide) ?_
      refine lv_goto (tgt := 54) hx hb dX1_spread_38 (by decide) ?_
      exact C_spreadS2_a54 C hT9 h (lv_sub hl [1, 2, 3, 4, 0] rfl) w
def C_spreadS2_w0 (dd : Nat) (post : CS → Prop) (T9 : Int32 → Int32 → Int32 → CS → Prop) (x1 : Int32) (x2 : Int32) (S : CS) : Prop :=
  (vp_in x1 12 ∧ (fun (S1 : CS) => T9 x1 x2 (0 : Int32) S1) (tI S 32 (x1).toNatClampNeg x2))
set_option maxHeartbeats 4000000 in
set_option maxRecDepth 100000 in
theorem C_spreadS2_a0 {p : Program} {l : Launch} {e : Env} {s : State} {m : MethodId} {args : Array Value} {below : List Frame} {meth : Method} {c : Code} {D : va_G} {dA : Nat → ClassId} {o : Nat → Nat} {A : Nat → Prop} {dd : Nat} {post : CS → Prop} {T9 : Int32 → Int32 → Int32 → CS → Prop} (C : cC RX1 p m c cX1_spread 6 s args meth (Option.none : Option Jvm.ClassFile.FieldType) A) (hT9 : ∀ (x1 : Int32) (x2 : Int32) (x3 : Int32) (S : CS), T9 x1 x2 x3 S → ∀ (H : Heap) (locs : List Loc) (ls : Array Slot), lv_has ls 6 [(0, .ref (o 2)), (1, .int x1), (2, .int x2), (3, .int x3)] → cw D dA o A s S H locs → W p l e (rC_spreadS2 (dd + 1)) s m args below meth c H locs 0 0 (cQv below args s D dA o A (rC_spreadS2 (dd + 1)) post) (F0 m 9 ls [])) {x1 : Int32} {x2 : Int32} {S : CS} (h : C_spreadS2_w0 dd post T9 x1 x2 S) {H : Heap} {locs : List Loc} {ls : Array Slot} (hl : lv_has ls 6 [(0, .ref (o 2)), (1, .int x1), (2, .int x2)]) (w : cw D dA o A s S H locs) : W p l e (rC_spreadS2 (dd + 1)) s m args below meth c H locs 0 0 (cQv below args s D dA o A (rC_spreadS2 (dd + 1)) post) (F0 m 0 ls []) := by
  unfold C_spreadS2_w0 at h
  obtain ⟨⟨hx, hb, hml, hown, hts⟩, hr, hlk, hA⟩ := id C
  refine lv_aload_n hx hb dX1_spread_0 rfl (lv_at hl 0 rfl) ?_
  refine cr_get C w 1 rfl rfl in_X2' 1 (by decide) q114 rfl rfl dX1_spread_1 ?_
  refine lv_iload_n hx hb dX1_spread_4 rfl (lv_at hl 1 rfl) ?_
  refine lv_iload_n hx hb dX1_spread_5 rfl (lv_at hl 2 rfl) ?_
  obtain ⟨hi, h⟩ := h
  refine cr_iast C w 14 rfl hi CWs_32 dX1_spread_6 (fun H locs w => ?_)
  refine lv_iconst (v := 0) hx hb dX1_spread_7 (by decide) ?_
  refine lv_istore_n (lv' := [(3, .int _), (0, .ref _), (1, .int _), (2, .int _)]) hx hb dX1_spread_8 rfl hl (by decide) rfl (fun ls hl => ?_)
  exact hT9 _ _ _ _ h _ _ _ (lv_sub hl [1, 2, 3, 0] rfl) w
def C_spreadS2_VC (dd : Nat) (x1 : Int32) (x2 : Int32) (S : CS) (post : CS → Prop) : Prop := ∀ (T9 : Int32 → Int32 → Int32 → CS → Prop), (∀ (x1 : Int32) (x2 : Int32) (x3 : Int32) (S : CS), C_spreadS2_w9 dd post T9 x1 x2 x3 S → T9 x1 x2 x3 S) → C_spreadS2_w0 dd post T9 x1 x2 S
theorem C_spreadS2_ok {dd : Nat} {x1 : Int32} {x2 : Int32} {S : CS} {post : CS → Prop} (h : C_spreadS2_VC dd x1 x2 S post) : C_spreadS2 (dd + 1) x1 x2 S post := by
  intro l D dA o sz
  refine cr_start (fun A => va_Qv post (cB D dA o A) A) rfl (Nat.le_of_ble_eq_true rfl) (by decide) ?_
  intro p e s m args below meth c ls A C w hl
  have hl : lv_has ls 6 [(0, .ref (o 2)), (1, .int x1), (2, .int x2)] := hl
  have h := h (fun (x1 : Int32) (x2 : Int32) (x3 : Int32) S => ∀ (H : Heap) (locs : List Loc) (ls : Array Slot), lv_has ls 6 [(0, .ref (o 2)), (1, .int x1), (2, .int x2), (3, .int x3)] → cw D dA o A s S H locs → W p l e (rC_spreadS2 (dd + 1)) s m args below meth c H locs 0 0 (cQv below args s D dA o A (rC_spreadS2 (dd + 1)) post) (F0 m 9 ls [])) (fun _ _ _ S h H locs ls hl w => C_spreadS2_a9 C (fun _ _ _ _ h => h) h hl w)
  exact C_spreadS2_a0 C (fun _ _ _ _ h => h) h (lv_sub hl [0, 1, 2] rfl) w

/-! ThirdSheets$Sort.find()I -/
def C_findS2_w83 (post : Int32 → CS → Prop) (T7 : Int32 → CS → Prop) (T38 : Int32 → CS → Prop) (x1 : Int32) (S : CS) : Prop :=
  T38 (x1 + (1 : Int32)) S
set_option maxHeartbeats 4000000 in
set_option maxRecDepth 100000 in
theorem C_findS2_a83 {p : Program} {l : Launch} {e : Env} {s : State} {m : MethodId} {args : Array Value} {below : List Frame} {meth : Method} {c : Code} {D : va_G} {dA : Nat → ClassId} {o : Nat → Nat} {A : Nat → Prop} {post : Int32 → CS → Prop} {T7 : Int32 → CS → Prop} {T38 : Int32 → CS → Prop} (C : cC RX1 p m c cX1_find 2 s args meth (Option.some Jvm.ClassFile.FieldType.int) A) (hT7 : ∀ (x1 : Int32) (S : CS), T7 x1 S → ∀ (H : Heap) (locs : List Loc) (ls : Array Slot), lv_has ls 2 [(0, .ref (o 2)), (1, .int x1)] → cw D dA o A s S H locs → W p l e (rC_findS2) s m args below meth c H locs 0 0 (cQi below args s D dA o A (rC_findS2) post) (F0 m 7 ls [])) (hT38 : ∀ (x1 : Int32) (S : CS), T38 x1 S → ∀ (H : Heap) (locs : List Loc) (ls : Array Slot), lv_has ls 2 [(0, .ref (o 2)), (1, .int x1)] → cw D dA o A s S H locs → W p l e (rC_findS2) s m args below meth c H locs 0 0 (cQi below args s D dA o A (rC_findS2) post) (F0 m 38 ls [])) {x1 : Int32} {S : CS} (h : C_findS2_w83 post T7 T38 x1 S) {H : Heap} {locs : List Loc} {ls : Array Slot} (hl : lv_has ls 2 [(0, .ref (o 2)), (1, .int x1)]) (w : cw D dA o A s S H locs) : W p l e (rC_findS2) s m args below meth c H locs 0 0 (cQi below args s D dA o A (rC_findS2) post) (F0 m 83 ls []) := by
  unfold C_findS2_w83 at h
  obtain ⟨⟨hx, hb, hml, hown, hts⟩, hr, hlk, hA⟩ := id C
  refine lv_iinc (v := _ + (1 : Int32)) (lv' := [(1, .int _), (0, .ref _)]) hx hb dX1_find_83 hl (k := 1) rfl rfl (by decide) rfl (fun ls hl => ?_)
  refine lv_goto (tgt := 38) hx hb dX1_find_86 (by decide) ?_
  exact hT38 _ _ h _ _ _ (lv_sub hl [1, 0] rfl) w
def C_findS2_w38 (post : Int32 → CS → Prop) (T7 : Int32 → CS → Prop) (T38 : Int32 → CS → Prop) (x1 : Int32) (S : CS) : Prop :=
  ((((kF S 1) * (4 : Int32)) ≤ x1 → post (kF S 42) S) ∧ (¬ ((kF S 1) * (4 : Int32)) ≤ x1 → (vp_in x1 12 ∧ ((¬ (kI S 32 (x1).toNatClampNeg) = (-1 : Int32) → C_findS2_w83 post T7 T38 x1 S) ∧ ((kI S 32 (x1).toNatClampNeg) = (-1 : Int32) → C_spreadS2 36 x1 (kF S 42) S (fun (S1 : CS) => (fun (S2 : CS) => C_findS2_w83 post T7 T38 x1 S2) (tF S1 42 ((kF S1 42) + (1 : Int32)))))))))
set_option maxHeartbeats 4000000 in
set_option maxRecDepth 100000 in
theorem C_findS2_a38 {p : Program} {l : Launch} {e : Env} {s : State} {m : MethodId} {args : Array Value} {below : List Frame} {meth : Method} {c : Code} {D : va_G} {dA : Nat → ClassId} {o : Nat → Nat} {A : Nat → Prop} {post : Int32 → CS → Prop} {T7 : Int32 → CS → Prop} {T38 : Int32 → CS → Prop} (C : cC RX1 p m c cX1_find 2 s args meth (Option.some Jvm.ClassFile.FieldType.int) A) (hT7 : ∀ (x1 : Int32) (S : CS), T7 x1 S → ∀ (H : Heap) (locs : List Loc) (ls : Array Slot), lv_has ls 2 [(0, .ref (o 2)), (1, .int x1)] → cw D dA o A s S H locs → W p l e (rC_findS2) s m args below meth c H locs 0 0 (cQi below args s D dA o A (rC_findS2) post) (F0 m 7 ls [])) (hT38 : ∀ (x1 : Int32) (S : CS), T38 x1 S → ∀ (H : Heap) (locs : List Loc) (ls : Array Slot), lv_has ls 2 [(0, .ref (o 2)), (1, .int x1)] → cw D dA o A s S H locs → W p l e (rC_findS2) s m args below meth c H locs 0 0 (cQi below args s D dA o A (rC_findS2) post) (F0 m 38 ls [])) {x1 : Int32} {S : CS} (h : C_findS2_w38 post T7 T38 x1 S) {H : Heap} {locs : List Loc} {ls : Array Slot} (hl : lv_has ls 2 [(0, .ref (o 2)), (1, .int x1)]) (w : cw D dA o A s S H locs) : W p l e (rC_findS2) s m args below meth c H locs 0 0 (cQi below args s D dA o A (rC_findS2) post) (F0 m 38 ls []) := by
  unfold C_findS2_w38 at h
  obtain ⟨⟨hx, hb, hml, hown, hts⟩, hr, hlk, hA⟩ := id C
  refine lv_iload_n hx hb dX1_find_38 rfl (lv_at hl 1 rfl) ?_
  refine lv_aload_n hx hb dX1_find_39 rfl (lv_at hl 0 rfl) ?_
  refine cr_get C w 1 rfl rfl in_X2' 3 (by decide) q118 rfl rfl dX1_find_40 ?_
  refine cr_getN C w 0 rfl rfl in_X0 1 (by decide) nwF_RX1_26 rfl rfl dX1_find_43 ?_
  refine lv_aload_n hx hb dX1_find_46 rfl (lv_at hl 0 rfl) ?_
  refine cr_get C w 1 rfl rfl in_X2' 0 (by decide) q113 rfl rfl dX1_find_47 ?_
  refine lv_imul hx hb dX1_find_50 ?_
  obtain ⟨h1, h2⟩ := h
  refine lv_icmp_ge (tgt := 89) hx hb dX1_find_51 (by decide) (fun c1 => ?_) (fun c1 => ?_)
  · have h := h1 c1
    refine lv_aload_n hx hb dX1_find_89 rfl (lv_at hl 0 rfl) ?_
    refine cr_get C w 1 rfl rfl in_X2' 2 (by decide) q115 rfl rfl dX1_find_90 ?_
    exact cr_iret C w h (Nat.le_of_ble_eq_true rfl) (Nat.le_of_ble_eq_true rfl) dX1_find_93
  · have h := h2 c1
    refine lv_aload_n hx hb dX1_find_54 rfl (lv_at hl 0 rfl) ?_
    refine cr_get C w 1 rfl rfl in_X2' 1 (by decide) q114 rfl rfl dX1_find_55 ?_
    refine lv_iload_n hx hb dX1_find_58 rfl (lv_at hl 1 rfl) ?_
    obtain ⟨hi, h⟩ := h
    refine cr_iald C w 14 rfl hi dX1_find_59 ?_
    refine lv_iconst (v := -1) hx hb dX1_find_60 (by decide) ?_
    obtain ⟨h1, h2⟩ := h
    refine lv_icmp_ne (tgt := 83) hx hb dX1_find_61 (by decide) (fun c1 => ?_) (fun c1 => ?_)
    · have h := h1 c1
      exact C_findS2_a83 C hT7 hT38 h (lv_sub hl [0, 1] rfl) w
    · have h := h2 c1
      refine lv_aload_n hx hb dX1_find_64 rfl (lv_at hl 0 rfl) ?_
      refine lv_iload_n hx hb dX1_find_65 rfl (lv_at hl 1 rfl) ?_
      refine lv_aload_n hx hb dX1_find_66 rfl (lv_at hl 0 rfl) ?_
      refine cr_get C w 1 rfl rfl in_X2' 2 (by decide) q115 rfl rfl dX1_find_67 ?_
      refine cr_callUV (owner := RX1) (rest := []) (b := fun o => o 2) C w h (recv2 w) (cr_cuSpread C w nwS_2 2 q295 q935 q297 q83 q298 rfl rfl (by decide +kernel) ⟨Nat.le_of_ble_eq_true rfl, Nat.le_of_ble_eq_true rfl⟩) rfl hl.1 rfl (Nat.le_of_ble_eq_true rfl) ⟨Nat.le_of_ble_eq_true rfl, Nat.le_of_ble_eq_true rfl⟩ dX1_find_70 (fun S1 H locs h w => ?_)
      refine lv_aload_n hx hb dX1_find_73 rfl (lv_at hl 0 rfl) ?_
      refine lv_dup hx hb dX1_find_74 rfl ?_
      refine cr_get C w 1 rfl rfl in_X2' 2 (by decide) q115 rfl rfl dX1_find_75 ?_
      refine lv_iconst (v := 1) hx hb dX1_find_78 (by decide) ?_
      refine lv_iadd hx hb dX1_find_79 ?_
      refine cr_putM C w 1 2 rfl rfl in_X2' tyX2 tyX2_ok' nmX2' rfl rfl q115 CWm_2 dX1_find_80 (fun H locs w => ?_)
      exact C_findS2_a83 C hT7 hT38 h (lv_sub hl [0, 1] rfl) w
def C_findS2_w7 (post : Int32 → CS → Prop) (T7 : Int32 → CS → Prop) (T38 : Int32 → CS → Prop) (x1 : Int32) (S : CS) : Prop :=
  ((((kF S 1) * (4 : Int32)) ≤ x1 → T38 (0 : Int32) S) ∧ (¬ ((kF S 1) * (4 : Int32)) ≤ x1 → (vp_in x1 12 ∧ (fun (S1 : CS) => T7 (x1 + (1 : Int32)) S1) (tI S 32 (x1).toNatClampNeg (-1 : Int32)))))
set_option maxHeartbeats 4000000 in
set_option maxRecDepth 100000 in
theorem C_findS2_a7 {p : Program} {l : Launch} {e : Env} {s : State} {m : MethodId} {args : Array Value} {below : List Frame} {meth : Method} {c : Code} {D : va_G} {dA : Nat → ClassId} {o : Nat → Nat} {A : Nat → Prop} {post : Int32 → CS → Prop} {T7 : Int32 → CS → Prop} {T38 : Int32 → CS → Prop} (C : cC RX1 p m c cX1_find 2 s args meth (Option.some Jvm.ClassFile.FieldType.int) A) (hT7 : ∀ (x1 : Int32) (S : CS), T7 x1 S → ∀ (H : Heap) (locs : List Loc) (ls : Array Slot), lv_has ls 2 [(0, .ref (o 2)), (1, .int x1)] → cw D dA o A s S H locs → W p l e (rC_findS2) s m args below meth c H locs 0 0 (cQi below args s D dA o A (rC_findS2) post) (F0 m 7 ls [])) (hT38 : ∀ (x1 : Int32) (S : CS), T38 x1 S → ∀ (H : Heap) (locs : List Loc) (ls : Array Slot), lv_has ls 2 [(0, .ref (o 2)), (1, .int x1)] → cw D dA o A s S H locs → W p l e (rC_findS2) s m args below meth c H locs 0 0 (cQi below args s D dA o A (rC_findS2) post) (F0 m 38 ls [])) {x1 : Int32} {S : CS} (h : C_findS2_w7 post T7 T38 x1 S) {H : Heap} {locs : List Loc} {ls : Array Slot} (hl : lv_has ls 2 [(0, .ref (o 2)), (1, .int x1)]) (w : cw D dA o A s S H locs) : W p l e (rC_findS2) s m args below meth c H locs 0 0 (cQi below args s D dA o A (rC_findS2) post) (F0 m 7 ls []) := by
  unfold C_findS2_w7 at h
  obtain ⟨⟨hx, hb, hml, hown, hts⟩, hr, hlk, hA⟩ := id C
  refine lv_iload_n hx hb dX1_find_7 rfl (lv_at hl 1 rfl) ?_
  refine lv_aload_n hx hb dX1_find_8 rfl (lv_at hl 0 rfl) ?_
  refine cr_get C w 1 rfl rfl in_X2' 3 (by decide) q118 rfl rfl dX1_find_9 ?_
  refine cr_getN C w 0 rfl rfl in_X0 1 (by decide) nwF_RX1_26 rfl rfl dX1_find_12 ?_
  refine lv_aload_n hx hb dX1_find_15 rfl (lv_at hl 0 rfl) ?_
  refine cr_get C w 1 rfl rfl in_X2' 0 (by decide) q113 rfl rfl dX1_find_16 ?_
  refine lv_imul hx hb dX1_find_19 ?_
  obtain ⟨h1, h2⟩ := h
  refine lv_icmp_ge (tgt := 36) hx hb dX1_find_20 (by decide) (fun c1 => ?_) (fun c1 => ?_)
  · have h := h1 c1
    refine lv_iconst (v := 0) hx hb dX1_find_36 (by decide) ?_
    refine lv_istore_n (lv' := [(1, .int _), (0, .ref _)]) hx hb dX1_find_37 rfl hl (by decide) rfl (fun ls hl => ?_)
    exact hT38 _ _ h _ _ _ (lv_sub hl [1, 0] rfl) w
  · have h := h2 c1
    refine lv_aload_n hx hb dX1_find_23 rfl (lv_at hl 0 rfl) ?_
    refine cr_get C w 1 rfl rfl in_X2' 1 (by decide) q114 rfl rfl dX1_find_24 ?_
    refine lv_iload_n hx hb dX1_find_27 rfl (lv_at hl 1 rfl) ?_
    refine lv_iconst (v := -1) hx hb dX1_find_28 (by decide) ?_
    obtain ⟨hi, h⟩ := h
    refine cr_iast C w 14 rfl hi CWs_32 dX1_find_29 (fun H locs w => ?_)
    refine lv_iinc (v := _ + (1 : Int32)) (lv' := [(1, .int _), (0, .ref _)]) hx hb dX1_find_30 hl (k := 1) rfl rfl (by decide) rfl (fun ls hl => ?_)
    refine lv_goto (tgt := 7) hx hb dX1_find_33 (by decide) ?_
    exact hT7 _ _ h _ _ _ (lv_sub hl [1, 0] rfl) w
def C_findS2_w0 (post : Int32 → CS → Prop) (T7 : Int32 → CS → Prop) (T38 : Int32 → CS → Prop) (S : CS) : Prop :=
  (fun (S1 : CS) => T7 (0 : Int32) S1) (tF S 42 (0 : Int32))
set_option maxHeartbeats 4000000 in
set_option maxRecDepth 100000 in
theorem C_findS2_a0 {p : Program} {l : Launch} {e : Env} {s : State} {m : MethodId} {args : Array Value} {below : List Frame} {meth : Method} {c : Code} {D : va_G} {dA : Nat → ClassId} {o : Nat → Nat} {A : Nat → Prop} {post : Int32 → CS → Prop} {T7 : Int32 → CS → Prop} {T38 : Int32 → CS → Prop} (C : cC RX1 p m c cX1_find 2 s args meth (Option.some Jvm.ClassFile.FieldType.int) A) (hT7 : ∀ (x1 : Int32) (S : CS), T7 x1 S → ∀ (H : Heap) (locs : List Loc) (ls : Array Slot), lv_has ls 2 [(0, .ref (o 2)), (1, .int x1)] → cw D dA o A s S H locs → W p l e (rC_findS2) s m args below meth c H locs 0 0 (cQi below args s D dA o A (rC_findS2) post) (F0 m 7 ls [])) (hT38 : ∀ (x1 : Int32) (S : CS), T38 x1 S → ∀ (H : Heap) (locs : List Loc) (ls : Array Slot), lv_has ls 2 [(0, .ref (o 2)), (1, .int x1)] → cw D dA o A s S H locs → W p l e (rC_findS2) s m args below meth c H locs 0 0 (cQi below args s D dA o A (rC_findS2) post) (F0 m 38 ls [])) {S : CS} (h : C_findS2_w0 post T7 T38 S) {H : Heap} {locs : List Loc} {ls : Array Slot} (hl : lv_has ls 2 [(0, .ref (o 2))]) (w : cw D dA o A s S H locs) : W p l e (rC_findS2) s m args below meth c H locs 0 0 (cQi below args s D dA o A (rC_findS2) post) (F0 m 0 ls []) := by
  unfold C_findS2_w0 at h
  obtain ⟨⟨hx, hb, hml, hown, hts⟩, hr, hlk, hA⟩ := id C
  refine lv_aload_n hx hb dX1_find_0 rfl (lv_at hl 0 rfl) ?_
  refine lv_iconst (v := 0) hx hb dX1_find_1 (by decide) ?_
  refine cr_putM C w 1 2 rfl rfl in_X2' tyX2 tyX2_ok' nmX2' rfl rfl q115 CWm_2 dX1_find_2 (fun H locs w => ?_)
  refine lv_iconst (v := 0) hx hb dX1_find_5 (by decide) ?_
  refine lv_istore_n (lv' := [(1, .int _), (0, .ref _)]) hx hb dX1_find_6 rfl hl (by decide) rfl (fun ls hl => ?_)
  exact hT7 _ _ h _ _ _ (lv_sub hl [1, 0] rfl) w
def C_findS2_VC (S : CS) (post : Int32 → CS → Prop) : Prop := ∀ (T7 : Int32 → CS → Prop) (T38 : Int32 → CS → Prop), (∀ (x1 : Int32) (S : CS), C_findS2_w7 post T7 T38 x1 S → T7 x1 S) → (∀ (x1 : Int32) (S : CS), C_findS2_w38 post T7 T38 x1 S → T38 x1 S) → C_findS2_w0 post T7 T38 S
theorem C_findS2_ok {S : CS} {post : Int32 → CS → Prop} (h : C_findS2_VC S post) : C_findS2 S post := by
  intro l D dA o sz
  refine cr_start (fun A => va_Qi post (cB D dA o A) A) rfl (Nat.le_of_ble_eq_true rfl) (by decide) ?_
  intro p e s m args below meth c ls A C w hl
  have hl : lv_has ls 2 [(0, .ref (o 2))] := hl
  have h := h (fun (x1 : Int32) S => ∀ (H : Heap) (locs : List Loc) (ls : Array Slot), lv_has ls 2 [(0, .ref (o 2)), (1, .int x1)] → cw D dA o A s S H locs → W p l e (rC_findS2) s m args below meth c H locs 0 0 (cQi below args s D dA o A (rC_findS2) post) (F0 m 7 ls [])) (fun (x1 : Int32) S => ∀ (H : Heap) (locs : List Loc) (ls : Array Slot), lv_has ls 2 [(0, .ref (o 2)), (1, .int x1)] → cw D dA o A s S H locs → W p l e (rC_findS2) s m args below meth c H locs 0 0 (cQi below args s D dA o A (rC_findS2) post) (F0 m 38 ls [])) (fun _ S h H locs ls hl w => C_findS2_a7 C (fun _ _ h => h) (fun _ _ h => h) h hl w) (fun _ S h H locs ls hl w => C_findS2_a38 C (fun _ _ h => h) (fun _ _ h => h) h hl w)
  exact C_findS2_a0 C (fun _ _ h => h) (fun _ _ h => h) h (lv_sub hl [0] rfl) w

/-! ThirdSheets$Edges.across(IILThirdSheets$Glue;)I -/
def C_acrossS3_w45 (post : Int32 → CS → Prop) (v0 : Int32) (S : CS) : Prop :=
  post v0 S
set_option maxHeartbeats 4000000 in
set_option maxRecDepth 100000 in
theorem C_acrossS3_a45 {p : Program} {l : Launch} {e : Env} {s : State} {m : MethodId} {args : Array Value} {below : List Frame} {meth : Method} {c : Code} {D : va_G} {dA : Nat → ClassId} {o : Nat → Nat} {A : Nat → Prop} {post : Int32 → CS → Prop} (C : cC RX3 p m c cX3_across 4 s args meth (Option.some Jvm.ClassFile.FieldType.int) A) {v0 : Int32} {S : CS} (h : C_acrossS3_w45 post v0 S) {H : Heap} {locs : List Loc} {ls : Array Slot} (hl : lv_has ls 4 [(0, .ref (o 3))]) (w : cw D dA o A s S H locs) : W p l e (rC_acrossS3) s m args below meth c H locs 0 0 (cQi below args s D dA o A (rC_acrossS3) post) (F0 m 45 ls [.int v0]) := by
  unfold C_acrossS3_w45 at h
  obtain ⟨⟨hx, hb, hml, hown, hts⟩, hr, hlk, hA⟩ := id C
  exact cr_iret C w h (Nat.le_of_ble_eq_true rfl) (Nat.le_of_ble_eq_true rfl) dX3_across_45
def C_acrossS3_w18 (post : Int32 → CS → Prop) (S : CS) : Prop :=
  C_acrossS3_w45 post (-1 : Int32) S
set_option maxHeartbeats 4000000 in
set_option maxRecDepth 100000 in
theorem C_acrossS3_a18 {p : Program} {l : Launch} {e : Env} {s : State} {m : MethodId} {args : Array Value} {below : List Frame} {meth : Method} {c : Code} {D : va_G} {dA : Nat → ClassId} {o : Nat → Nat} {A : Nat → Prop} {post : Int32 → CS → Prop} (C : cC RX3 p m c cX3_across 4 s args meth (Option.some Jvm.ClassFile.FieldType.int) A) {S : CS} (h : C_acrossS3_w18 post S) {H : Heap} {locs : List Loc} {ls : Array Slot} (hl : lv_has ls 4 [(0, .ref (o 3))]) (w : cw D dA o A s S H locs) : W p l e (rC_acrossS3) s m args below meth c H locs 0 0 (cQi below args s D dA o A (rC_acrossS3) post) (F0 m 18 ls []) := by
  unfold C_acrossS3_w18 at h
  obtain ⟨⟨hx, hb, hml, hown, hts⟩, hr, hlk, hA⟩ := id C
  refine lv_iconst (v := -1) hx hb dX3_across_18 (by decide) ?_
  refine lv_goto (tgt := 45) hx hb dX3_across_19 (by decide) ?_
  exact C_acrossS3_a45 C h (lv_sub hl [0] rfl) w
def C_acrossS3_w0 (post : Int32 → CS → Prop) (x1 : Int32) (x2 : Int32) (a3 : Nat) (S : CS) : Prop :=
  (vp_in x1 6 ∧ (((lowF (x1).toNatClampNeg) = x2 → C_acrossS3_w18 post S) ∧ (¬ (lowF (x1).toNatClampNeg) = x2 → (vp_in x1 6 ∧ ((¬ (highF (x1).toNatClampNeg) = x2 → (pk S a3 0 ∧ (vp_in x1 6 ∧ (pk S (kG S a3).2.2 1 ∧ vp_in (lowF (x1).toNatClampNeg) (kN S (kG S a3).2.2) ∧ (pk S a3 0 ∧ (vp_in x1 6 ∧ (pk S (kG S a3).2.2 1 ∧ vp_in (highF (x1).toNatClampNeg) (kN S (kG S a3).2.2) ∧ C_edgeOf (kT S (kG S a3).2.2 ((lowF (x1).toNatClampNeg)).toNatClampNeg) (kT S (kG S a3).2.2 ((highF (x1).toNatClampNeg)).toNatClampNeg) S (fun (r1 : Int32) (S1 : CS) => C_acrossS3_w45 post r1 S1)))))))) ∧ ((highF (x1).toNatClampNeg) = x2 → C_acrossS3_w18 post S))))))
set_option maxHeartbeats 4000000 in
set_option maxRecDepth 100000 in
theorem C_acrossS3_a0 {p : Program} {l : Launch} {e : Env} {s : State} {m : MethodId} {args : Array Value} {below : List Frame} {meth : Method} {c : Code} {D : va_G} {dA : Nat → ClassId} {o : Nat → Nat} {A : Nat → Prop} {post : Int32 → CS → Prop} (C : cC RX3 p m c cX3_across 4 s args meth (Option.some Jvm.ClassFile.FieldType.int) A) {x1 : Int32} {x2 : Int32} {a3 : Nat} {S : CS} (h : C_acrossS3_w0 post x1 x2 a3 S) {H : Heap} {locs : List Loc} {ls : Array Slot} (hl : lv_has ls 4 [(0, .ref (o 3)), (1, .int x1), (2, .int x2), (3, .ref a3)]) (w : cw D dA o A s S H locs) : W p l e (rC_acrossS3) s m args below meth c H locs 0 0 (cQi below args s D dA o A (rC_acrossS3) post) (F0 m 0 ls []) := by
  unfold C_acrossS3_w0 at h
  obtain ⟨⟨hx, hb, hml, hown, hts⟩, hr, hlk, hA⟩ := id C
  obtain ⟨tL, tH, hZL, hTL, hZH, hTH⟩ := w.2.2.2.2.2
  refine cr_getsN C w hZL nwF_RX3_15 dX3_across_0 ?_ -- tL
  refine lv_iload_n hx hb dX3_across_3 rfl (lv_at hl 1 rfl) ?_
  obtain ⟨hi, h⟩ := h
  refine cr_sald C w hTL hi dX3_across_4 ?_
  refine lv_iload_n hx hb dX3_across_5 rfl (lv_at hl 2 rfl) ?_
  obtain ⟨h1, h2⟩ := h
  refine lv_icmp_eq (tgt := 18) hx hb dX3_across_6 (by decide) (fun c1 => ?_) (fun c1 => ?_)
  · have h := h1 c1
    exact C_acrossS3_a18 C h (lv_sub hl [0] rfl) w
  · have h := h2 c1
    refine cr_getsN C w hZH nwF_RX3_19 dX3_across_9 ?_ -- tH
    refine lv_iload_n hx hb dX3_across_12 rfl (lv_at hl 1 rfl) ?_
    obtain ⟨hi, h⟩ := h
    refine cr_sald C w hTH hi dX3_across_13 ?_
    refine lv_iload_n hx hb dX3_across_14 rfl (lv_at hl 2 rfl) ?_
    obtain ⟨h1, h2⟩ := h
    refine lv_icmp_ne (tgt := 22) hx hb dX3_across_15 (by decide) (fun c1 => ?_) (fun c1 => ?_)
    · have h := h1 c1
      refine lv_aload_n hx hb dX3_across_22 rfl (lv_at hl 3 rfl) ?_
      obtain ⟨hpk, h⟩ := h
      refine cr_getGt C w hpk nwF_RX3_22 dX3_across_23 ?_
      refine cr_getsN C w hZL nwF_RX3_15 dX3_across_26 ?_ -- tL
      refine lv_iload_n hx hb dX3_across_29 rfl (lv_at hl 1 rfl) ?_
      obtain ⟨hi, h⟩ := h
      refine cr_sald C w hTL hi dX3_across_30 ?_
      obtain ⟨hpk, hi, h⟩ := h
      refine cr_tald C w hpk hi dX3_across_31 ?_
      refine lv_aload_n hx hb dX3_across_32 rfl (lv_at hl 3 rfl) ?_
      obtain ⟨hpk, h⟩ := h
      refine cr_getGt C w hpk nwF_RX3_22 dX3_across_33 ?_
      refine cr_getsN C w hZH nwF_RX3_19 dX3_across_36 ?_ -- tH
      refine lv_iload_n hx hb dX3_across_39 rfl (lv_at hl 1 rfl) ?_
      obtain ⟨hi, h⟩ := h
      refine cr_sald C w hTH hi dX3_across_40 ?_
      obtain ⟨hpk, hi, h⟩ := h
      refine cr_tald C w hpk hi dX3_across_41 ?_
      refine cr_callSN (host := RX0) (rest := []) C w h (va_cnB 2 hts (lw_meth q314) rfl rfl rfl (w.2.2.2.2.1.1 _ nwM_RX3_27) (hts _ q82) C_edgeOf_d ⟨Nat.le_of_ble_eq_true rfl, Nat.le_of_ble_eq_true rfl⟩) q313 rfl hl.1 rfl (Nat.le_of_ble_eq_true rfl) ⟨Nat.le_of_ble_eq_true rfl, Nat.le_of_ble_eq_true rfl⟩ dX3_across_42 (fun r1 S1 H locs h w => ?_)
      exact C_acrossS3_a45 C h (lv_sub hl [0] rfl) w
    · have h := h2 c1
      exact C_acrossS3_a18 C h (lv_sub hl [0] rfl) w
def C_acrossS3_VC (x1 : Int32) (x2 : Int32) (a3 : Nat) (S : CS) (post : Int32 → CS → Prop) : Prop := C_acrossS3_w0 post x1 x2 a3 S
theorem C_acrossS3_ok {x1 : Int32} {x2 : Int32} {a3 : Nat} {S : CS} {post : Int32 → CS → Prop} (h : C_acrossS3_VC x1 x2 a3 S post) : C_acrossS3 x1 x2 a3 S post := by
  intro l D dA o sz
  refine cr_start (fun A => va_Qi post (cB D dA o A) A) rfl (Nat.le_of_ble_eq_true rfl) (by decide) ?_
  intro p e s m args below meth c ls A C w hl
  have hl : lv_has ls 4 [(0, .ref (o 3)), (1, .int x1), (2, .int x2), (3, .ref a3)] := hl
  exact C_acrossS3_a0 C h (lv_sub hl [0, 1, 2, 3] rfl) w

/-! ThirdSheets$Sort.spread(II)V -/
def C_spreadS3_w102 (dd : Nat) (post : CS → Prop) (T9 : Int32 → Int32 → Int32 → CS → Prop) (x1 : Int32) (x2 : Int32) (x3 : Int32) (S : CS) : Prop :=
  T9 x1 x2 (x3 + (1 : Int32)) S
set_option maxHeartbeats 4000000 in
set_option maxRecDepth 100000 in
theorem C_spreadS3_a102 {p : Program} {l : Launch} {e : Env} {s : State} {m : MethodId} {args : Array Value} {below : List Frame} {meth : Method} {c : Code} {D : va_G} {dA : Nat → ClassId} {o : Nat → Nat} {A : Nat → Prop} {dd : Nat} {post : CS → Prop} {T9 : Int32 → Int32 → Int32 → CS → Prop} (C : cC RX1 p m c cX1_spread 6 s args meth (Option.none : Option Jvm.ClassFile.FieldType) A) (hT9 : ∀ (x1 : Int32) (x2 : Int32) (x3 : Int32) (S : CS), T9 x1 x2 x3 S → ∀ (H : Heap) (locs : List Loc) (ls : Array Slot), lv_has ls 6 [(0, .ref (o 3)), (1, .int x1), (2, .int x2), (3, .int x3)] → cw D dA o A s S H locs → W p l e (rC_spreadS3 (dd + 1)) s m args below meth c H locs 0 0 (cQv below args s D dA o A (rC_spreadS3 (dd + 1)) post) (F0 m 9 ls [])) {x1 : Int32} {x2 : Int32} {x3 : Int32} {S : CS} (h : C_spreadS3_w102 dd post T9 x1 x2 x3 S) {H : Heap} {locs : List Loc} {ls : Array Slot} (hl : lv_has ls 6 [(0, .ref (o 3)), (1, .int x1), (2, .int x2), (3, .int x3)]) (w : cw D dA o A s S H locs) : W p l e (rC_spreadS3 (dd + 1)) s m args below meth c H locs 0 0 (cQv below args s D dA o A (rC_spreadS3 (dd + 1)) post) (F0 m 102 ls []) := by
  unfold C_spreadS3_w102 at h
  obtain ⟨⟨hx, hb, hml, hown, hts⟩, hr, hlk, hA⟩ := id C
  refine lv_iinc (v := _ + (1 : Int32)) (lv' := [(3, .int _), (0, .ref _), (1, .int _), (2, .int _)]) hx hb dX1_spread_102 hl (k := 3) rfl rfl (by decide) rfl (fun ls hl => ?_)
  refine lv_goto (tgt := 9) hx hb dX1_spread_105 (by decide) ?_
  exact hT9 _ _ _ _ h _ _ _ (lv_sub hl [1, 2, 3, 0] rfl) w
def C_spreadS3_w54 (dd : Nat) (post : CS → Prop) (T9 : Int32 → Int32 → Int32 → CS → Prop) (v0 : Int32) (x1 : Int32) (x2 : Int32) (x3 : Int32) (y4 : Option Nat) (S : CS) : Prop :=
  ((v0 = (-1 : Int32) → C_spreadS3_w102 dd post T9 x1 x2 x3 S) ∧ (¬ v0 = (-1 : Int32) → (∃ g1 : Nat, y4 = some g1 ∧ pk S g1 0 ∧ (vp_in (((kG S g1).1 * (6 : Int32)) + v0) 18 ∧ ((¬ (kI S 33 ((((kG S g1).1 * (6 : Int32)) + v0)).toNatClampNeg) = (-1 : Int32) → C_spreadS3_w102 dd post T9 x1 x2 x3 S) ∧ ((kI S 33 ((((kG S g1).1 * (6 : Int32)) + v0)).toNatClampNeg) = (-1 : Int32) → (∃ g2 : Nat, y4 = some g2 ∧ pk S g2 0 ∧ C_spreadS3 dd (((kG S g2).1 * (6 : Int32)) + v0) x2 S (fun (S3 : CS) => C_spreadS3_w102 dd post T9 x1 x2 x3 S3))))))))
set_option maxHeartbeats 4000000 in
set_option maxRecDepth 100000 in
theorem C_spreadS3_a54 {p : Program} {l : Launch} {e : Env} {s : State} {m : MethodId} {args : Array Value} {below : List Frame} {meth : Method} {c : Code} {D : va_G} {dA : Nat → ClassId} {o : Nat → Nat} {A : Nat → Prop} {dd : Nat} {post : CS → Prop} {T9 : Int32 → Int32 → Int32 → CS → Prop} (C : cC RX1 p m c cX1_spread 6 s args meth (Option.none : Option Jvm.ClassFile.FieldType) A) (hT9 : ∀ (x1 : Int32) (x2 : Int32) (x3 : Int32) (S : CS), T9 x1 x2 x3 S → ∀ (H : Heap) (locs : List Loc) (ls : Array Slot), lv_has ls 6 [(0, .ref (o 3)), (1, .int x1), (2, .int x2), (3, .int x3)] → cw D dA o A s S H locs → W p l e (rC_spreadS3 (dd + 1)) s m args below meth c H locs 0 0 (cQv below args s D dA o A (rC_spreadS3 (dd + 1)) post) (F0 m 9 ls [])) {v0 : Int32} {x1 : Int32} {x2 : Int32} {x3 : Int32} {y4 : Option Nat} {S : CS} (h : C_spreadS3_w54 dd post T9 v0 x1 x2 x3 y4 S) {H : Heap} {locs : List Loc} {ls : Array Slot} (hl : lv_has ls 6 [(0, .ref (o 3)), (1, .int x1), (2, .int x2), (3, .int x3), (4, va_rf y4)]) (w : cw D dA o A s S H locs) : W p l e (rC_spreadS3 (dd + 1)) s m args below meth c H locs 0 0 (cQv below args s D dA o A (rC_spreadS3 (dd + 1)) post) (F0 m 54 ls [.int v0]) := by
  unfold C_spreadS3_w54 at h
  obtain ⟨⟨hx, hb, hml, hown, hts⟩, hr, hlk, hA⟩ := id C
  refine lv_istore (lv' := [(5, .int _), (0, .ref _), (1, .int _), (2, .int _), (3, .int _), (4, va_rf _)]) hx hb dX1_spread_54 hl (by decide) ((congrArg (List.cons _) (lv_filtC (by intro q hq hq1; simp only [List.mem_cons, List.not_mem_nil, or_false] at hq; rcases hq with rfl | rfl | rfl | rfl | rfl <;> first | exact va_rf_cat _ | (exfalso; simp at hq1)))).trans rfl) (fun ls hl => ?_)
  refine lv_iload hx hb dX1_spread_56 (lv_at hl 0 rfl) ?_
  refine lv_iconst (v := -1) hx hb dX1_spread_58 (by decide) ?_
  obtain ⟨h1, h2⟩ := h
  refine lv_icmp_eq (tgt := 102) hx hb dX1_spread_59 (by decide) (fun c1 => ?_) (fun c1 => ?_)
  · have h := h1 c1
    exact C_spreadS3_a102 C hT9 h (lv_sub hl [1, 2, 3, 4] rfl) w
  · have h := h2 c1
    refine lv_aload_n hx hb dX1_spread_62 rfl (lv_at hl 1 rfl) ?_
    refine cr_get C w 2 rfl rfl in_X3' 1 (by decide) q114 rfl rfl dX1_spread_63 ?_
    refine lv_aloadQ hx hb dX1_spread_66 (lv_at hl 5 rfl) ?_
    obtain ⟨g1, hg, hpk, h⟩ := h
    refine cr_opt hg ?_
    refine cr_getGp C w hpk nwF_RX1_41 dX1_spread_68 ?_
    refine lv_aload_n hx hb dX1_spread_71 rfl (lv_at hl 1 rfl) ?_
    refine cr_get C w 2 rfl rfl in_X3' 0 (by decide) q113 rfl rfl dX1_spread_72 ?_
    refine lv_imul hx hb dX1_spread_75 ?_
    refine lv_iload hx hb dX1_spread_76 (lv_at hl 0 rfl) ?_
    refine lv_iadd hx hb dX1_spread_78 ?_
    obtain ⟨hi, h⟩ := h
    refine cr_iald C w 15 rfl hi dX1_spread_79 ?_
    refine lv_iconst (v := -1) hx hb dX1_spread_80 (by decide) ?_
    obtain ⟨h1, h2⟩ := h
    refine lv_icmp_ne (tgt := 102) hx hb dX1_spread_81 (by decide) (fun c1 => ?_) (fun c1 => ?_)
    · have h := h1 c1
      exact C_spreadS3_a102 C hT9 h (lv_sub hl [1, 2, 3, 4] rfl) w
    · have h := h2 c1
      refine lv_aload_n hx hb dX1_spread_84 rfl (lv_at hl 1 rfl) ?_
      refine lv_aloadQ hx hb dX1_spread_85 (lv_at hl 5 rfl) ?_
      obtain ⟨g2, hg, hpk, h⟩ := h
      refine cr_opt hg ?_
      refine cr_getGp C w hpk nwF_RX1_41 dX1_spread_87 ?_
      refine lv_aload_n hx hb dX1_spread_90 rfl (lv_at hl 1 rfl) ?_
      refine cr_get C w 2 rfl rfl in_X3' 0 (by decide) q113 rfl rfl dX1_spread_91 ?_
      refine lv_imul hx hb dX1_spread_94 ?_
      refine lv_iload hx hb dX1_spread_95 (lv_at hl 0 rfl) ?_
      refine lv_iadd hx hb dX1_spread_97 ?_
      refine lv_iload_n hx hb dX1_spread_98 rfl (lv_at hl 3 rfl) ?_
      refine cr_callUV (owner := RX1) (rest := []) (b := fun o => o 3) C w h (recv3 w) (cr_cuSpread C w nwS_3 2 q295 q935 q297 q83 q298 rfl rfl (by decide +kernel) ⟨by show 3 + dd + 1 ≤ 3 + (dd + 1); omega, by show 8 + (6 + 11) + (67 + 25 * dd) ≤ 67 + 25 * (dd + 1); omega⟩) rfl hl.1 rfl (Nat.le_of_ble_eq_true rfl) ⟨Nat.le_of_ble_eq_true rfl, Nat.le_of_ble_eq_true rfl⟩ dX1_spread_99 (fun S3 H locs h w => ?_)
      exact C_spreadS3_a102 C hT9 h (lv_sub hl [1, 2, 3, 4] rfl) w
def C_spreadS3_w9 (dd : Nat) (post : CS → Prop) (T9 : Int32 → Int32 → Int32 → CS → Prop) (x1 : Int32) (x2 : Int32) (x3 : Int32) (S : CS) : Prop :=
  (((4 : Int32) ≤ x3 → post S) ∧ (¬ (4 : Int32) ≤ x3 → (vp_in (x1 / (6 : Int32)) 3 ∧ (vp_in x3 4 ∧ ((∀ g2 : Nat, (kGl S (((x1 / (6 : Int32))).toNatClampNeg) (x3).toNatClampNeg) = some g2 → C_acrossS3 (x1 - x1 / (6 : Int32) * (6 : Int32)) x3 g2 S (fun (r3 : Int32) (S3 : CS) => C_spreadS3_w54 dd post T9 r3 x1 x2 x3 (some g2) S3)) ∧ ((kGl S (((x1 / (6 : Int32))).toNatClampNeg) (x3).toNatClampNeg) = none → C_spreadS3_w54 dd post T9 (-1 : Int32) x1 x2 x3 (kGl S (((x1 / (6 : Int32))).toNatClampNeg) (x3).toNatClampNeg) S))))))
set_option maxHeartbeats 4000000 in
set_option maxRecDepth 100000 in
theorem C_spreadS3_a9 {p : Program} {l : Launch} {e : Env} {s : State} {m : MethodId} {args : Array Value} {below : List Frame} {meth : Method} {c : Code} {D : va_G} {dA : Nat → ClassId} {o : Nat → Nat} {A : Nat → Prop} {dd : Nat} {post : CS → Prop} {T9 : Int32 → Int32 → Int32 → CS → Prop} (C : cC RX1 p m c cX1_spread 6 s args meth (Option.none : Option Jvm.ClassFile.FieldType) A) (hT9 : ∀ (x1 : Int32) (x2 : Int32) (x3 : Int32) (S : CS), T9 x1 x2 x3 S → ∀ (H : Heap) (locs : List Loc) (ls : Array Slot), lv_has ls 6 [(0, .ref (o 3)), (1, .int x1), (2, .int x2), (3, .int x3)] → cw D dA o A s S H locs → W p l e (rC_spreadS3 (dd + 1)) s m args below meth c H locs 0 0 (cQv below args s D dA o A (rC_spreadS3 (dd + 1)) post) (F0 m 9 ls [])) {x1 : Int32} {x2 : Int32} {x3 : Int32} {S : CS} (h : C_spreadS3_w9 dd post T9 x1 x2 x3 S) {H : Heap} {locs : List Loc} {ls : Array Slot} (hl : lv_has ls 6 [(0, .ref (o 3)), (1, .int x1), (2, .int x2), (3, .int x3)]) (w : cw D dA o A s S H locs) : W p l e (rC_spreadS3 (dd + 1)) s m args below meth c H locs 0 0 (cQv below args s D dA o A (rC_spreadS3 (dd + 1)) post) (F0 m 9 ls []) := by
  unfold C_spreadS3_w9 at h
  obtain ⟨⟨hx, hb, hml, hown, hts⟩, hr, hlk, hA⟩ := id C
  refine lv_iload_n hx hb dX1_spread_9 rfl (lv_at hl 3 rfl) ?_
  refine lv_iconst (v := 4) hx hb dX1_spread_10 (by decide) ?_
  obtain ⟨h1, h2⟩ := h
  refine lv_icmp_ge (tgt := 108) hx hb dX1_spread_11 (by decide) (fun c1 => ?_) (fun c1 => ?_)
  · have h := h1 c1
    exact cr_vret C w h (Nat.le_of_ble_eq_true rfl) (Nat.le_of_ble_eq_true rfl) dX1_spread_108
  · have h := h2 c1
    refine lv_aload_n hx hb dX1_spread_14 rfl (lv_at hl 0 rfl) ?_
    refine cr_get C w 2 rfl rfl in_X3' 3 (by decide) q118 rfl rfl dX1_spread_15 ?_
    refine cr_getN C w 0 rfl rfl in_X0 0 (by decide) nwF_RX1_33 rfl rfl dX1_spread_18 ?_
    refine lv_iload_n hx hb dX1_spread_21 rfl (lv_at hl 1 rfl) ?_
    refine lv_aload_n hx hb dX1_spread_22 rfl (lv_at hl 0 rfl) ?_
    refine cr_get C w 2 rfl rfl in_X3' 0 (by decide) q113 rfl rfl dX1_spread_23 ?_
    refine lv_idiv hx hb dX1_spread_26 (by decide) ?_
    obtain ⟨hi, h⟩ := h
    have hj1 := vp_lt hi
    refine cr_gout C w hi dX1_spread_27 ?_
    refine lv_iload_n hx hb dX1_spread_28 rfl (lv_at hl 3 rfl) ?_
    obtain ⟨hi, h⟩ := h
    refine cr_gin C w hj1 hi dX1_spread_29 ?_
    refine lv_astoreQ (lv' := [(4, va_rf _), (0, .ref _), (1, .int _), (2, .int _), (3, .int _)]) hx hb dX1_spread_30 hl (by decide) rfl (fun ls hl => ?_)
    refine lv_aloadQ hx hb dX1_spread_32 (lv_at hl 0 rfl) ?_
    obtain ⟨h1, h2⟩ := h
    refine lv_ifnonnullQ (tgt := 41) hx hb dX1_spread_34 (by decide) (fun g2 c1 => ?_) (fun c1 => ?_)
    · have h := h1 g2 c1
      rw [c1] at hl
      refine lv_aload_n hx hb dX1_spread_41 rfl (lv_at hl 1 rfl) ?_
      refine lv_iload_n hx hb dX1_spread_42 rfl (lv_at hl 2 rfl) ?_
      refine lv_aload_n hx hb dX1_spread_43 rfl (lv_at hl 1 rfl) ?_
      refine cr_get C w 2 rfl rfl in_X3' 0 (by decide) q113 rfl rfl dX1_spread_44 ?_
      refine lv_irem hx hb dX1_spread_47 (by decide) ?_
      refine lv_iload_n hx hb dX1_spread_48 rfl (lv_at hl 4 rfl) ?_
      refine lv_aload hx hb dX1_spread_49 (lv_at hl 0 rfl) ?_
      refine cr_callUI (owner := RX1) (rest := []) (b := fun o => o 3) C w h (recv3 w) (va_cwA 3 hts (lw_U q299 q301 q305 q306 q85 q307) rfl rfl rfl (w.2.2.2.2.1.1 _ nwD) (by decide +kernel) ⟨by show 2 + 1 ≤ 3 + (dd + 1); omega, by show 8 + (4 + 11) + 44 ≤ 67 + 25 * (dd + 1); omega⟩) rfl hl.1 rfl (Nat.le_of_ble_eq_true rfl) ⟨Nat.le_of_ble_eq_true rfl, Nat.le_of_ble_eq_true rfl⟩ dX1_spread_51 (fun r3 S3 H locs h w => ?_)
      exact C_spreadS3_a54 C hT9 h (lv_sub hl [1, 2, 3, 4, 0] rfl) w
    · have h := h2 c1
      refine lv_iconst (v := -1) hx hb dX1_spread_37 (by decide) ?_
      refine lv_goto (tgt := 54) hx hb dX1_spread_38 (by decide) ?_
      exact C_spreadS3_a54 C hT9 h (lv_sub hl [1, 2, 3, 4, 0] rfl) w
def C_spreadS3_w0 (dd : Nat) (post : CS → Prop) (T9 : Int32 → Int32 → Int32 → CS → Prop) (x1 : Int32) (x2 : Int32) (S : CS) : Prop :=
  (vp_in x1 18 ∧ (fun (S1 : CS) => T9 x1 x2 (0 : Int32) S1) (tI S 33 (x1).toNatClampNeg x2))
set_option maxHeartbeats 4000000 in
set_option maxRecDepth 100000 in
theorem C_spreadS3_a0 {p : Program} {l : Launch} {e : Env} {s : State} {m : MethodId} {args : Array Value} {below : List Frame} {meth : Method} {c : Code} {D : va_G} {dA : Nat → ClassId} {o : Nat → Nat} {A : Nat → Prop} {dd : Nat} {post : CS → Prop} {T9 : Int32 → Int32 → Int32 → CS → Prop} (C : cC RX1 p m c cX1_spread 6 s args meth (Option.none : Option Jvm.ClassFile.FieldType) A) (hT9 : ∀ (x1 : Int32) (x2 : Int32) (x3 : Int32) (S : CS), T9 x1 x2 x3 S → ∀ (H : Heap) (locs : List Loc) (ls : Array Slot), lv_has ls 6 [(0, .ref (o 3)), (1, .int x1), (2, .int x2), (3, .int x3)] → cw D dA o A s S H locs → W p l e (rC_spreadS3 (dd + 1)) s m args below meth c H locs 0 0 (cQv below args s D dA o A (rC_spreadS3 (dd + 1)) post) (F0 m 9 ls [])) {x1 : Int32} {x2 : Int32} {S : CS} (h : C_spreadS3_w0 dd post T9 x1 x2 S) {H : Heap} {locs : List Loc} {ls : Array Slot} (hl : lv_has ls 6 [(0, .ref (o 3)), (1, .int x1), (2, .int x2)]) (w : cw D dA o A s S H locs) : W p l e (rC_spreadS3 (dd + 1)) s m args below meth c H locs 0 0 (cQv below args s D dA o A (rC_spreadS3 (dd + 1)) post) (F0 m 0 ls []) := by
  unfold C_spreadS3_w0 at h
  obtain ⟨⟨hx, hb, hml, hown, hts⟩, hr, hlk, hA⟩ := id C
  refine lv_aload_n hx hb dX1_spread_0 rfl (lv_at hl 0 rfl) ?_
  refine cr_get C w 2 rfl rfl in_X3' 1 (by decide) q114 rfl rfl dX1_spread_1 ?_
  refine lv_iload_n hx hb dX1_spread_4 rfl (lv_at hl 1 rfl) ?_
  refine lv_iload_n hx hb dX1_spread_5 rfl (lv_at hl 2 rfl) ?_
  obtain ⟨hi, h⟩ := h
  refine cr_iast C w 15 rfl hi CWs_33 dX1_spread_6 (fun H locs w => ?_)
  refine lv_iconst (v := 0) hx hb dX1_spread_7 (by decide) ?_
  refine lv_istore_n (lv' := [(3, .int _), (0, .ref _), (1, .int _), (2, .int _)]) hx hb dX1_spread_8 rfl hl (by decide) rfl (fun ls hl => ?_)
  exact hT9 _ _ _ _ h _ _ _ (lv_sub hl [1, 2, 3, 0] rfl) w
def C_spreadS3_VC (dd : Nat) (x1 : Int32) (x2 : Int32) (S : CS) (post : CS → Prop) : Prop := ∀ (T9 : Int32 → Int32 → Int32 → CS → Prop), (∀ (x1 : Int32) (x2 : Int32) (x3 : Int32) (S : CS), C_spreadS3_w9 dd post T9 x1 x2 x3 S → T9 x1 x2 x3 S) → C_spreadS3_w0 dd post T9 x1 x2 S
theorem C_spreadS3_ok {dd : Nat} {x1 : Int32} {x2 : Int32} {S : CS} {post : CS → Prop} (h : C_spreadS3_VC dd x1 x2 S post) : C_spreadS3 (dd + 1) x1 x2 S post := by
  intro l D dA o sz
  refine cr_start (fun A => va_Qv post (cB D dA o A) A) rfl (Nat.le_of_ble_eq_true rfl) (by decide) ?_
  intro p e s m args below meth c ls A C w hl
  have hl : lv_has ls 6 [(0, .ref (o 3)), (1, .int x1), (2, .int x2)] := hl
  have h := h (fun (x1 : Int32) (x2 : Int32) (x3 : Int32) S => ∀ (H : Heap) (locs : List Loc) (ls : Array Slot), lv_has ls 6 [(0, .ref (o 3)), (1, .int x1), (2, .int x2), (3, .int x3)] → cw D dA o A s S H locs → W p l e (rC_spreadS3 (dd + 1)) s m args below meth c H locs 0 0 (cQv below args s D dA o A (rC_spreadS3 (dd + 1)) post) (F0 m 9 ls [])) (fun _ _ _ S h H locs ls hl w => C_spreadS3_a9 C (fun _ _ _ _ h => h) h hl w)
  exact C_spreadS3_a0 C (fun _ _ _ _ h => h) h (lv_sub hl [0, 1, 2] rfl) w
