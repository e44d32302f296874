/-! ThirdSheets.kindOf(II)I -/
def C_kindOf_w21 (post : Int32 → CS → Prop) (v0 : Int32) (S : CS) : Prop :=
  post v0 S
set_option maxHeartbeats 4000000 in
set_option maxRecDepth 100000 in
theorem C_kindOf_a21 {p : Program} {l : Launch} {e : Env} {s : State} {m : MethodId} {args : Array Value} {below : List Frame} {meth : Method} {c : Code} {D : va_G} {dA : Nat → ClassId} {o : Nat → Nat} {A : Nat → Prop} {post : Int32 → CS → Prop} (C : cC RX0 p m c cX0_kindOf 2 s args meth (Option.some Jvm.ClassFile.FieldType.int) A) {v0 : Int32} {S : CS} (h : C_kindOf_w21 post v0 S) {H : Heap} {locs : List Loc} {ls : Array Slot} (hl : lv_has ls 2 []) (w : cw D dA o A s S H locs) : W p l e (rC_kindOf) s m args below meth c H locs 0 0 (cQi below args s D dA o A (rC_kindOf) post) (F0 m 21 ls [.int v0]) := by
  unfold C_kindOf_w21 at h
  obtain ⟨⟨hx, hb, hml, hown, hts⟩, hr, hlk, hA⟩ := id C
  exact cr_iret C w h (Nat.le_of_ble_eq_true rfl) (Nat.le_of_ble_eq_true rfl) dX0_kindOf_21
def C_kindOf_w8 (post : Int32 → CS → Prop) (x0 : Int32) (x1 : Int32) (S : CS) : Prop :=
  C_kindOf_w21 post ((x0 + x1) - (1 : Int32)) S
set_option maxHeartbeats 4000000 in
set_option maxRecDepth 100000 in
theorem C_kindOf_a8 {p : Program} {l : Launch} {e : Env} {s : State} {m : MethodId} {args : Array Value} {below : List Frame} {meth : Method} {c : Code} {D : va_G} {dA : Nat → ClassId} {o : Nat → Nat} {A : Nat → Prop} {post : Int32 → CS → Prop} (C : cC RX0 p m c cX0_kindOf 2 s args meth (Option.some Jvm.ClassFile.FieldType.int) A) {x0 : Int32} {x1 : Int32} {S : CS} (h : C_kindOf_w8 post x0 x1 S) {H : Heap} {locs : List Loc} {ls : Array Slot} (hl : lv_has ls 2 [(0, .int x0), (1, .int x1)]) (w : cw D dA o A s S H locs) : W p l e (rC_kindOf) s m args below meth c H locs 0 0 (cQi below args s D dA o A (rC_kindOf) post) (F0 m 8 ls []) := by
  unfold C_kindOf_w8 at h
  obtain ⟨⟨hx, hb, hml, hown, hts⟩, hr, hlk, hA⟩ := id C
  refine lv_iload_n hx hb dX0_kindOf_8 rfl (lv_at hl 0 rfl) ?_
  refine lv_iload_n hx hb dX0_kindOf_9 rfl (lv_at hl 1 rfl) ?_
  refine lv_iadd hx hb dX0_kindOf_10 ?_
  refine lv_iconst (v := 1) hx hb dX0_kindOf_11 (by decide) ?_
  refine lv_isub hx hb dX0_kindOf_12 ?_
  refine lv_goto (tgt := 21) hx hb dX0_kindOf_13 (by decide) ?_
  exact C_kindOf_a21 C h (lv_sub hl [] rfl) w
def C_kindOf_w0 (post : Int32 → CS → Prop) (x0 : Int32) (x1 : Int32) (S : CS) : Prop :=
  ((x0 = 0 → C_kindOf_w8 post x0 x1 S) ∧ (¬ x0 = 0 → ((¬ x1 = 0 → C_kindOf_w21 post (((5 : Int32) - x0) - x1) S) ∧ (x1 = 0 → C_kindOf_w8 post x0 x1 S))))
set_option maxHeartbeats 4000000 in
set_option maxRecDepth 100000 in
theorem C_kindOf_a0 {p : Program} {l : Launch} {e : Env} {s : State} {m : MethodId} {args : Array Value} {below : List Frame} {meth : Method} {c : Code} {D : va_G} {dA : Nat → ClassId} {o : Nat → Nat} {A : Nat → Prop} {post : Int32 → CS → Prop} (C : cC RX0 p m c cX0_kindOf 2 s args meth (Option.some Jvm.ClassFile.FieldType.int) A) {x0 : Int32} {x1 : Int32} {S : CS} (h : C_kindOf_w0 post x0 x1 S) {H : Heap} {locs : List Loc} {ls : Array Slot} (hl : lv_has ls 2 [(0, .int x0), (1, .int x1)]) (w : cw D dA o A s S H locs) : W p l e (rC_kindOf) s m args below meth c H locs 0 0 (cQi below args s D dA o A (rC_kindOf) post) (F0 m 0 ls []) := by
  unfold C_kindOf_w0 at h
  obtain ⟨⟨hx, hb, hml, hown, hts⟩, hr, hlk, hA⟩ := id C
  refine lv_iload_n hx hb dX0_kindOf_0 rfl (lv_at hl 0 rfl) ?_
  obtain ⟨h1, h2⟩ := h
  refine lv_if_eq (tgt := 8) hx hb dX0_kindOf_1 (by decide) (fun c1 => ?_) (fun c1 => ?_)
  · have h := h1 c1
    exact C_kindOf_a8 C h (lv_sub hl [0, 1] rfl) w
  · have h := h2 c1
    refine lv_iload_n hx hb dX0_kindOf_4 rfl (lv_at hl 1 rfl) ?_
    obtain ⟨h1, h2⟩ := h
    refine lv_if_ne (tgt := 16) hx hb dX0_kindOf_5 (by decide) (fun c1 => ?_) (fun c1 => ?_)
    · have h := h1 c1
      refine lv_iconst (v := 5) hx hb dX0_kindOf_16 (by decide) ?_
      refine lv_iload_n hx hb dX0_kindOf_17 rfl (lv_at hl 0 rfl) ?_
      refine lv_isub hx hb dX0_kindOf_18 ?_
      refine lv_iload_n hx hb dX0_kindOf_19 rfl (lv_at hl 1 rfl) ?_
      refine lv_isub hx hb dX0_kindOf_20 ?_
      exact C_kindOf_a21 C h (lv_sub hl [] rfl) w
    · have h := h2 c1
      exact C_kindOf_a8 C h (lv_sub hl [0, 1] rfl) w
def C_kindOf_VC (x0 : Int32) (x1 : Int32) (S : CS) (post : Int32 → CS → Prop) : Prop := C_kindOf_w0 post x0 x1 S
theorem C_kindOf_ok {x0 : Int32} {x1 : Int32} {S : CS} {post : Int32 → CS → Prop} (h : C_kindOf_VC x0 x1 S post) : C_kindOf x0 x1 S post := by
  intro l D dA o sz
  refine cr_start (fun A => va_Qi post (cB D dA o A) A) rfl (Nat.le_of_ble_eq_true rfl) (by decide) ?_
  intro p e s m args below meth c ls A C w hl
  have hl : lv_has ls 2 [(0, .int x0), (1, .int x1)] := hl
  exact C_kindOf_a0 C h (lv_sub hl [0, 1] rfl) w

/-! ThirdSheets.grown([JJ[JJ)[J -/
def C_grown_w80 (post : Nat → CS → Prop) (T12 : Nat → Int64 → Nat → Int64 → Nat → Int64 → Int32 → CS → Prop) (T46 : Nat → Int64 → Nat → Int64 → Nat → Int64 → Int32 → Int64 → CS → Prop) (T80 : Nat → Int64 → Int32 → CS → Prop) (a6 : Nat) (x7 : Int64) (x9 : Int32) (S : CS) : Prop :=
  (pk S a6 3 ∧ (((nI (kN S a6)) ≤ x9 → post a6 S) ∧ (¬ (nI (kN S a6)) ≤ x9 → (pk S a6 3 ∧ vp_in x9 (kN S a6) ∧ (¬ x7 = 0 ∧ (pk S a6 3 ∧ vp_in x9 (kN S a6) ∧ (fun (S1 : CS) => T80 a6 x7 (x9 + (1 : Int32)) S1) (tR S a6 (x9).toNatClampNeg ((kR S a6 (x9).toNatClampNeg) / x7))))))))
set_option maxHeartbeats 4000000 in
set_option maxRecDepth 100000 in
theorem C_grown_a80 {p : Program} {l : Launch} {e : Env} {s : State} {m : MethodId} {args : Array Value} {below : List Frame} {meth : Method} {c : Code} {D : va_G} {dA : Nat → ClassId} {o : Nat → Nat} {A : Nat → Prop} {post : Nat → CS → Prop} {T12 : Nat → Int64 → Nat → Int64 → Nat → Int64 → Int32 → CS → Prop} {T46 : Nat → Int64 → Nat → Int64 → Nat → Int64 → Int32 → Int64 → CS → Prop} {T80 : Nat → Int64 → Int32 → CS → Prop} (C : cC RX0 p m c cX0_grown 14 s args meth (Option.some (Jvm.ClassFile.FieldType.array Jvm.ClassFile.FieldType.long)) A) (hT12 : ∀ (a0 : Nat) (x1 : Int64) (a3 : Nat) (x4 : Int64) (a6 : Nat) (x7 : Int64) (x9 : Int32) (S : CS), T12 a0 x1 a3 x4 a6 x7 x9 S → ∀ (H : Heap) (locs : List Loc) (ls : Array Slot), lv_has ls 14 [(0, .ref a0), (1, .long x1), (3, .ref a3), (4, .long x4), (6, .ref a6), (7, .long x7), (9, .int x9)] → cw D dA o A s S H locs → W p l e (rC_grown) s m args below meth c H locs 1 21 (cQr below args s D dA o A (rC_grown) post) (F0 m 12 ls [])) (hT46 : ∀ (a0 : Nat) (x1 : Int64) (a3 : Nat) (x4 : Int64) (a6 : Nat) (x7 : Int64) (x9 : Int32) (x10 : Int64) (S : CS), T46 a0 x1 a3 x4 a6 x7 x9 x10 S → ∀ (H : Heap) (locs : List Loc) (ls : Array Slot), lv_has ls 14 [(0, .ref a0), (1, .long x1), (3, .ref a3), (4, .long x4), (6, .ref a6), (7, .long x7), (9, .int x9), (10, .long x10)] → cw D dA o A s S H locs → W p l e (rC_grown) s m args below meth c H locs 1 21 (cQr below args s D dA o A (rC_grown) post) (F0 m 46 ls [])) (hT80 : ∀ (a6 : Nat) (x7 : Int64) (x9 : Int32) (S : CS), T80 a6 x7 x9 S → ∀ (H : Heap) (locs : List Loc) (ls : Array Slot), lv_has ls 14 [(6, .ref a6), (7, .long x7), (9, .int x9)] → cw D dA o A s S H locs → W p l e (rC_grown) s m args below meth c H locs 1 21 (cQr below args s D dA o A (rC_grown) post) (F0 m 80 ls [])) {a6 : Nat} {x7 : Int64} {x9 : Int32} {S : CS} (h : C_grown_w80 post T12 T46 T80 a6 x7 x9 S) {H : Heap} {locs : List Loc} {ls : Array Slot} (hl : lv_has ls 14 [(6, .ref a6), (7, .long x7), (9, .int x9)]) (w : cw D dA o A s S H locs) : W p l e (rC_grown) s m args below meth c H locs 1 21 (cQr below args s D dA o A (rC_grown) post) (F0 m 80 ls []) := by
  unfold C_grown_w80 at h
  obtain ⟨⟨hx, hb, hml, hown, hts⟩, hr, hlk, hA⟩ := id C
  refine lv_iload hx hb dX0_grown_80 (lv_at hl 2 rfl) ?_
  refine lv_aload hx hb dX0_grown_82 (lv_at hl 0 rfl) ?_
  obtain ⟨hpk, h⟩ := h
  refine cr_rlen C w hpk dX0_grown_84 ?_
  obtain ⟨h1, h2⟩ := h
  refine lv_icmp_ge (tgt := 104) hx hb dX0_grown_85 (by decide) (fun c1 => ?_) (fun c1 => ?_)
  · have h := h1 c1
    refine lv_aload hx hb dX0_grown_104 (lv_at hl 0 rfl) ?_
    exact cr_aretJ C w h (Nat.le_of_ble_eq_true rfl) (Nat.le_of_ble_eq_true rfl) dX0_grown_106
  · have h := h2 c1
    refine lv_aload hx hb dX0_grown_88 (lv_at hl 0 rfl) ?_
    refine lv_iload hx hb dX0_grown_90 (lv_at hl 2 rfl) ?_
    refine lv_dup2_11 hx hb dX0_grown_92 rfl rfl ?_
    obtain ⟨hpk, hi, h⟩ := h
    refine cr_rald C w hpk hi dX0_grown_93 ?_
    refine lv_lload hx hb dX0_grown_94 (lv_at hl 1 rfl) ?_
    obtain ⟨hne, h⟩ := h
    refine lv_ldiv hx hb dX0_grown_96 hne ?_
    obtain ⟨hpk, hi, h⟩ := h
    refine cr_rast C w hpk hi dX0_grown_97 (fun H locs w => ?_)
    refine lv_iinc (v := _ + (1 : Int32)) (lv' := [(9, .int _), (6, .ref _), (7, .long _)]) hx hb dX0_grown_98 hl (k := 2) rfl rfl (by decide) rfl (fun ls hl => ?_)
    refine lv_goto (tgt := 80) hx hb dX0_grown_101 (by decide) ?_
    exact hT80 _ _ _ _ h _ _ _ (lv_sub hl [1, 2, 0] rfl) w
def C_grown_w46 (post : Nat → CS → Prop) (T12 : Nat → Int64 → Nat → Int64 → Nat → Int64 → Int32 → CS → Prop) (T46 : Nat → Int64 → Nat → Int64 → Nat → Int64 → Int32 → Int64 → CS → Prop) (T80 : Nat → Int64 → Int32 → CS → Prop) (a0 : Nat) (x1 : Int64) (a3 : Nat) (x4 : Int64) (a6 : Nat) (x7 : Int64) (x9 : Int32) (x10 : Int64) (S : CS) : Prop :=
  ((x10 = (0 : Int64) → T12 a0 x1 a3 x4 a6 x7 (x9 + (1 : Int32)) S) ∧ (¬ x10 = (0 : Int64) → (¬ x10 = 0 ∧ T46 a0 x1 a3 x4 a6 x10 x9 (x7 - x7 / x10 * x10) S)))
set_option maxHeartbeats 4000000 in
set_option maxRecDepth 100000 in
theorem C_grown_a46 {p : Program} {l : Launch} {e : Env} {s : State} {m : MethodId} {args : Array Value} {below : List Frame} {meth : Method} {c : Code} {D : va_G} {dA : Nat → ClassId} {o : Nat → Nat} {A : Nat → Prop} {post : Nat → CS → Prop} {T12 : Nat → Int64 → Nat → Int64 → Nat → Int64 → Int32 → CS → Prop} {T46 : Nat → Int64 → Nat → Int64 → Nat → Int64 → Int32 → Int64 → CS → Prop} {T80 : Nat → Int64 → Int32 → CS → Prop} (C : cC RX0 p m c cX0_grown 14 s args meth (Option.some (Jvm.ClassFile.FieldType.array Jvm.ClassFile.FieldType.long)) A) (hT12 : ∀ (a0 : Nat) (x1 : Int64) (a3 : Nat) (x4 : Int64) (a6 : Nat) (x7 : Int64) (x9 : Int32) (S : CS), T12 a0 x1 a3 x4 a6 x7 x9 S → ∀ (H : Heap) (locs : List Loc) (ls : Array Slot), lv_has ls 14 [(0, .ref a0), (1, .long x1), (3, .ref a3), (4, .long x4), (6, .ref a6), (7, .long x7), (9, .int x9)] → cw D dA o A s S H locs → W p l e (rC_grown) s m args below meth c H locs 1 21 (cQr below args s D dA o A (rC_grown) post) (F0 m 12 ls [])) (hT46 : ∀ (a0 : Nat) (x1 : Int64) (a3 : Nat) (x4 : Int64) (a6 : Nat) (x7 : Int64) (x9 : Int32) (x10 : Int64) (S : CS), T46 a0 x1 a3 x4 a6 x7 x9 x10 S → ∀ (H : Heap) (locs : List Loc) (ls : Array Slot), lv_has ls 14 [(0, .ref a0), (1, .long x1), (3, .ref a3), (4, .long x4), (6, .ref a6), (7, .long x7), (9, .int x9), (10, .long x10)] → cw D dA o A s S H locs → W p l e (rC_grown) s m args below meth c H locs 1 21 (cQr below args s D dA o A (rC_grown) post) (F0 m 46 ls [])) (hT80 : ∀ (a6 : Nat) (x7 : Int64) (x9 : Int32) (S : CS), T80 a6 x7 x9 S → ∀ (H : Heap) (locs : List Loc) (ls : Array Slot), lv_has ls 14 [(6, .ref a6), (7, .long x7), (9, .int x9)] → cw D dA o A s S H locs → W p l e (rC_grown) s m args below meth c H locs 1 21 (cQr below args s D dA o A (rC_grown) post) (F0 m 80 ls [])) {a0 : Nat} {x1 : Int64} {a3 : Nat} {x4 : Int64} {a6 : Nat} {x7 : Int64} {x9 : Int32} {x10 : Int64} {S : CS} (h : C_grown_w46 post T12 T46 T80 a0 x1 a3 x4 a6 x7 x9 x10 S) {H : Heap} {locs : List Loc} {ls : Array Slot} (hl : lv_has ls 14 [(0, .ref a0), (1, .long x1), (3, .ref a3), (4, .long x4), (6, .ref a6), (7, .long x7), (9, .int x9), (10, .long x10)]) (w : cw D dA o A s S H locs) : W p l e (rC_grown) s m args below meth c H locs 1 21 (cQr below args s D dA o A (rC_grown) post) (F0 m 46 ls []) := by
  unfold C_grown_w46 at h
  obtain ⟨⟨hx, hb, hml, hown, hts⟩, hr, hlk, hA⟩ := id C
  refine lv_lload hx hb dX0_grown_46 (lv_at hl 7 rfl) ?_
  refine lv_lconst (v := 0) hx hb dX0_grown_48 (by decide) ?_
  refine W.lcmp hx hb dX0_grown_49 ?_
  obtain ⟨h1, h2⟩ := h
  refine lv_if_eq (tgt := 71) hx hb dX0_grown_50 (by decide) (fun c1 => ?_) (fun c1 => ?_)
  · have h := h1 ((lg_cmp_eq _ _).mp c1)
    refine lv_iinc (v := _ + (1 : Int32)) (lv' := [(9, .int _), (0, .ref _), (1, .long _), (3, .ref _), (4, .long _), (6, .ref _), (7, .long _), (10, .long _)]) hx hb dX0_grown_71 hl (k := 6) rfl rfl (by decide) rfl (fun ls hl => ?_)
    refine lv_goto (tgt := 12) hx hb dX0_grown_74 (by decide) ?_
    exact hT12 _ _ _ _ _ _ _ _ h _ _ _ (lv_sub hl [1, 2, 3, 4, 5, 6, 0] rfl) w
  · have h := h2 (mt (lg_cmp_eq _ _).mpr c1)
    refine lv_lload hx hb dX0_grown_53 (lv_at hl 5 rfl) ?_
    refine lv_lload hx hb dX0_grown_55 (lv_at hl 7 rfl) ?_
    obtain ⟨hne, h⟩ := h
    refine lv_lrem hx hb dX0_grown_57 hne ?_
    refine lv_lstore (lv' := [(12, .long _), (0, .ref _), (1, .long _), (3, .ref _), (4, .long _), (6, .ref _), (7, .long _), (9, .int _), (10, .long _)]) hx hb dX0_grown_58 hl (by decide) rfl (fun ls hl => ?_)
    refine lv_lload hx hb dX0_grown_60 (lv_at hl 8 rfl) ?_
    refine lv_lstore (lv' := [(7, .long _), (12, .long _), (0, .ref _), (1, .long _), (3, .ref _), (4, .long _), (6, .ref _), (9, .int _), (10, .long _)]) hx hb dX0_grown_62 hl (by decide) rfl (fun ls hl => ?_)
    refine lv_lload hx hb dX0_grown_64 (lv_at hl 1 rfl) ?_
    refine lv_lstore (lv' := [(10, .long _), (7, .long _), (12, .long _), (0, .ref _), (1, .long _), (3, .ref _), (4, .long _), (6, .ref _), (9, .int _)]) hx hb dX0_grown_66 hl (by decide) rfl (fun ls hl => ?_)
    refine lv_goto (tgt := 46) hx hb dX0_grown_68 (by decide) ?_
    exact hT46 _ _ _ _ _ _ _ _ _ h _ _ _ (lv_sub hl [3, 4, 5, 6, 7, 1, 8, 0] rfl) w
def C_grown_w12 (post : Nat → CS → Prop) (T12 : Nat → Int64 → Nat → Int64 → Nat → Int64 → Int32 → CS → Prop) (T46 : Nat → Int64 → Nat → Int64 → Nat → Int64 → Int32 → Int64 → CS → Prop) (T80 : Nat → Int64 → Int32 → CS → Prop) (a0 : Nat) (x1 : Int64) (a3 : Nat) (x4 : Int64) (a6 : Nat) (x7 : Int64) (x9 : Int32) (S : CS) : Prop :=
  (pk S a6 3 ∧ (((nI (kN S a6)) ≤ x9 → T80 a6 x7 (0 : Int32) S) ∧ (¬ (nI (kN S a6)) ≤ x9 → (pk S a0 3 ∧ vp_in x9 (kN S a0) ∧ (pk S a3 3 ∧ vp_in x9 (kN S a3) ∧ (pk S a6 3 ∧ vp_in x9 (kN S a6) ∧ (fun (S1 : CS) => (pk S1 a6 3 ∧ vp_in x9 (kN S1 a6) ∧ T46 a0 x1 a3 x4 a6 x7 x9 (kR S1 a6 (x9).toNatClampNeg) S1)) (tR S a6 (x9).toNatClampNeg (((kR S a0 (x9).toNatClampNeg) * x1) + ((kR S a3 (x9).toNatClampNeg) * x4)))))))))
set_option maxHeartbeats 4000000 in
set_option maxRecDepth 100000 in
theorem C_grown_a12 {p : Program} {l : Launch} {e : Env} {s : State} {m : MethodId} {args : Array Value} {below : List Frame} {meth : Method} {c : Code} {D : va_G} {dA : Nat → ClassId} {o : Nat → Nat} {A : Nat → Prop} {post : Nat → CS → Prop} {T12 : Nat → Int64 → Nat → Int64 → Nat → Int64 → Int32 → CS → Prop} {T46 : Nat → Int64 → Nat → Int64 → Nat → Int64 → Int32 → Int64 → CS → Prop} {T80 : Nat → Int64 → Int32 → CS → Prop} (C : cC RX0 p m c cX0_grown 14 s args meth (Option.some (Jvm.ClassFile.FieldType.array Jvm.ClassFile.FieldType.long)) A) (hT12 : ∀ (a0 : Nat) (x1 : Int64) (a3 : Nat) (x4 : Int64) (a6 : Nat) (x7 : Int64) (x9 : Int32) (S : CS), T12 a0 x1 a3 x4 a6 x7 x9 S → ∀ (H : Heap) (locs : List Loc) (ls : Array Slot), lv_has ls 14 [(0, .ref a0), (1, .long x1), (3, .ref a3), (4, .long x4), (6, .ref a6), (7, .long x7), (9, .int x9)] → cw D dA o A s S H locs → W p l e (rC_grown) s m args below meth c H locs 1 21 (cQr below args s D dA o A (rC_grown) post) (F0 m 12 ls [])) (hT46 : ∀ (a0 : Nat) (x1 : Int64) (a3 : Nat) (x4 : Int64) (a6 : Nat) (x7 : Int64) (x9 : Int32) (x10 : Int64) (S : CS), T46 a0 x1 a3 x4 a6 x7 x9 x10 S → ∀ (H : Heap) (locs : List Loc) (ls : Array Slot), lv_has ls 14 [(0, .ref a0), (1, .long x1), (3, .ref a3), (4, .long x4), (6, .ref a6), (7, .long x7), (9, .int x9), (10, .long x10)] → cw D dA o A s S H locs → W p l e (rC_grown) s m args below meth c H locs 1 21 (cQr below args s D dA o A (rC_grown) post) (F0 m 46 ls [])) (hT80 : ∀ (a6 : Nat) (x7 : Int64) (x9 : Int32) (S : CS), T80 a6 x7 x9 S → ∀ (H : Heap) (locs : List Loc) (ls : Array Slot), lv_has ls 14 [(6, .ref a6), (7, .long x7), (9, .int x9)] → cw D dA o A s S H locs → W p l e (rC_grown) s m args below meth c H locs 1 21 (cQr below args s D dA o A (rC_grown) post) (F0 m 80 ls [])) {a0 : Nat} {x1 : Int64} {a3 : Nat} {x4 : Int64} {a6 : Nat} {x7 : Int64} {x9 : Int32} {S : CS} (h : C_grown_w12 post T12 T46 T80 a0 x1 a3 x4 a6 x7 x9 S) {H : Heap} {locs : List Loc} {ls : Array Slot} (hl : lv_has ls 14 [(0, .ref a0), (1, .long x1), (3, .ref a3), (4, .long x4), (6, .ref a6), (7, .long x7), (9, .int x9)]) (w : cw D dA o A s S H locs) : W p l e (rC_grown) s m args below meth c H locs 1 21 (cQr below args s D dA o A (rC_grown) post) (F0 m 12 ls []) := by
  unfold C_grown_w12 at h
  obtain ⟨⟨hx, hb, hml, hown, hts⟩, hr, hlk, hA⟩ := id C
  refine lv_iload hx hb dX0_grown_12 (lv_at hl 6 rfl) ?_
  refine lv_aload hx hb dX0_grown_14 (lv_at hl 4 rfl) ?_
  obtain ⟨hpk, h⟩ := h
  refine cr_rlen C w hpk dX0_grown_16 ?_
  obtain ⟨h1, h2⟩ := h
  refine lv_icmp_ge (tgt := 77) hx hb dX0_grown_17 (by decide) (fun c1 => ?_) (fun c1 => ?_)
  · have h := h1 c1
    refine lv_iconst (v := 0) hx hb dX0_grown_77 (by decide) ?_
    refine lv_istore (lv' := [(9, .int _), (0, .ref _), (1, .long _), (3, .ref _), (4, .long _), (6, .ref _), (7, .long _)]) hx hb dX0_grown_78 hl (by decide) rfl (fun ls hl => ?_)
    exact hT80 _ _ _ _ h _ _ _ (lv_sub hl [5, 6, 0] rfl) w
  · have h := h2 c1
    refine lv_aload hx hb dX0_grown_20 (lv_at hl 4 rfl) ?_
    refine lv_iload hx hb dX0_grown_22 (lv_at hl 6 rfl) ?_
    refine lv_aload_n hx hb dX0_grown_24 rfl (lv_at hl 0 rfl) ?_
    refine lv_iload hx hb dX0_grown_25 (lv_at hl 6 rfl) ?_
    obtain ⟨hpk, hi, h⟩ := h
    refine cr_rald C w hpk hi dX0_grown_27 ?_
    refine lv_lload_n hx hb dX0_grown_28 rfl (lv_at hl 1 rfl) ?_
    refine lv_lmul hx hb dX0_grown_29 ?_
    refine lv_aload_n hx hb dX0_grown_30 rfl (lv_at hl 2 rfl) ?_
    refine lv_iload hx hb dX0_grown_31 (lv_at hl 6 rfl) ?_
    obtain ⟨hpk, hi, h⟩ := h
    refine cr_rald C w hpk hi dX0_grown_33 ?_
    refine lv_lload hx hb dX0_grown_34 (lv_at hl 3 rfl) ?_
    refine lv_lmul hx hb dX0_grown_36 ?_
    refine lv_ladd hx hb dX0_grown_37 ?_
    obtain ⟨hpk, hi, h⟩ := h
    refine cr_rast C w hpk hi dX0_grown_38 (fun H locs w => ?_)
    refine lv_aload hx hb dX0_grown_39 (lv_at hl 4 rfl) ?_
    refine lv_iload hx hb dX0_grown_41 (lv_at hl 6 rfl) ?_
    obtain ⟨hpk, hi, h⟩ := h
    refine cr_rald C w hpk hi dX0_grown_43 ?_
    refine lv_lstore (lv' := [(10, .long _), (0, .ref _), (1, .long _), (3, .ref _), (4, .long _), (6, .ref _), (7, .long _), (9, .int _)]) hx hb dX0_grown_44 hl (by decide) rfl (fun ls hl => ?_)
    exact hT46 _ _ _ _ _ _ _ _ _ h _ _ _ (lv_sub hl [1, 2, 3, 4, 5, 6, 7, 0] rfl) w
def C_grown_w0 (post : Nat → CS → Prop) (T12 : Nat → Int64 → Nat → Int64 → Nat → Int64 → Int32 → CS → Prop) (T46 : Nat → Int64 → Nat → Int64 → Nat → Int64 → Int32 → Int64 → CS → Prop) (T80 : Nat → Int64 → Int32 → CS → Prop) (a0 : Nat) (x1 : Int64) (a3 : Nat) (x4 : Int64) (S : CS) : Prop :=
  (pk S a0 3 ∧ (¬ (nI (kN S a0)) < 0 ∧ ((nI (kN S a0))).toNatClampNeg ≤ 21 ∧ (∀ q1 : Nat, q1 ∉ kLP S → (fun (S1 : CS) => T12 a0 x1 a3 x4 q1 (0 : Int64) (0 : Int32) S1) (nR S q1 ((nI (kN S a0))).toNatClampNeg))))
set_option maxHeartbeats 4000000 in
set_option maxRecDepth 100000 in
theorem C_grown_a0 {p : Program} {l : Launch} {e : Env} {s : State} {m : MethodId} {args : Array Value} {below : List Frame} {meth : Method} {c : Code} {D : va_G} {dA : Nat → ClassId} {o : Nat → Nat} {A : Nat → Prop} {post : Nat → CS → Prop} {T12 : Nat → Int64 → Nat → Int64 → Nat → Int64 → Int32 → CS → Prop} {T46 : Nat → Int64 → Nat → Int64 → Nat → Int64 → Int32 → Int64 → CS → Prop} {T80 : Nat → Int64 → Int32 → CS → Prop} (C : cC RX0 p m c cX0_grown 14 s args meth (Option.some (Jvm.ClassFile.FieldType.array Jvm.ClassFile.FieldType.long)) A) (hT12 : ∀ (a0 : Nat) (x1 : Int64) (a3 : Nat) (x4 : Int64) (a6 : Nat) (x7 : Int64) (x9 : Int32) (S : CS), T12 a0 x1 a3 x4 a6 x7 x9 S → ∀ (H : Heap) (locs : List Loc) (ls : Array Slot), lv_has ls 14 [(0, .ref a0), (1, .long x1), (3, .ref a3), (4, .long x4), (6, .ref a6), (7, .long x7), (9, .int x9)] → cw D dA o A s S H locs → W p l e (rC_grown) s m args below meth c H locs 1 21 (cQr below args s D dA o A (rC_grown) post) (F0 m 12 ls [])) (hT46 : ∀ (a0 : Nat) (x1 : Int64) (a3 : Nat) (x4 : Int64) (a6 : Nat) (x7 : Int64) (x9 : Int32) (x10 : Int64) (S : CS), T46 a0 x1 a3 x4 a6 x7 x9 x10 S → ∀ (H : Heap) (locs : List Loc) (ls : Array Slot), lv_has ls 14 [(0, .ref a0), (1, .long x1), (3, .ref a3), (4, .long x4), (6, .ref a6), (7, .long x7), (9, .int x9), (10, .long x10)] → cw D dA o A s S H locs → W p l e (rC_grown) s m args below meth c H locs 1 21 (cQr below args s D dA o A (rC_grown) post) (F0 m 46 ls [])) (hT80 : ∀ (a6 : Nat) (x7 : Int64) (x9 : Int32) (S : CS), T80 a6 x7 x9 S → ∀ (H : Heap) (locs : List Loc) (ls : Array Slot), lv_has ls 14 [(6, .ref a6), (7, .long x7), (9, .int x9)] → cw D dA o A s S H locs → W p l e (rC_grown) s m args below meth c H locs 1 21 (cQr below args s D dA o A (rC_grown) post) (F0 m 80 ls [])) {a0 : Nat} {x1 : Int64} {a3 : Nat} {x4 : Int64} {S : CS} (h : C_grown_w0 post T12 T46 T80 a0 x1 a3 x4 S) {H : Heap} {locs : List Loc} {ls : Array Slot} (hl : lv_has ls 14 [(0, .ref a0), (1, .long x1), (3, .ref a3), (4, .long x4)]) (w : cw D dA o A s S H locs) : W p l e (rC_grown) s m args below meth c H locs 0 0 (cQr below args s D dA o A (rC_grown) post) (F0 m 0 ls []) := by
  unfold C_grown_w0 at h
  obtain ⟨⟨hx, hb, hml, hown, hts⟩, hr, hlk, hA⟩ := id C
  refine lv_aload_n hx hb dX0_grown_0 rfl (lv_at hl 0 rfl) ?_
  obtain ⟨hpk, h⟩ := h
  refine cr_rlen C w hpk dX0_grown_1 ?_
  obtain ⟨hn, hle, h⟩ := h
  refine cr_newR C w hn (Nat.le_trans hle (Nat.le_of_ble_eq_true rfl)) (Nat.le_of_ble_eq_true rfl) (by have h9 : 0 + 21 ≤ (rC_grown).slots := Nat.le_of_ble_eq_true rfl; omega) dX0_grown_2 (fun q1 H hq w => ?_)
  have h := h _ hq
  refine W.widen (k := 1) (n := 21) (Nat.le_of_ble_eq_true rfl) (by omega) ?_
  refine lv_astore (lv' := [(6, .ref _), (0, .ref _), (1, .long _), (3, .ref _), (4, .long _)]) hx hb dX0_grown_4 hl (by decide) rfl (fun ls hl => ?_)
  refine lv_lconst (v := 0) hx hb dX0_grown_6 (by decide) ?_
  refine lv_lstore (lv' := [(7, .long _), (6, .ref _), (0, .ref _), (1, .long _), (3, .ref _), (4, .long _)]) hx hb dX0_grown_7 hl (by decide) rfl (fun ls hl => ?_)
  refine lv_iconst (v := 0) hx hb dX0_grown_9 (by decide) ?_
  refine lv_istore (lv' := [(9, .int _), (7, .long _), (6, .ref _), (0, .ref _), (1, .long _), (3, .ref _), (4, .long _)]) hx hb dX0_grown_10 hl (by decide) rfl (fun ls hl => ?_)
  exact hT12 _ _ _ _ _ _ _ _ h _ _ _ (lv_sub hl [3, 4, 5, 6, 2, 1, 0] rfl) w
def C_grown_VC (a0 : Nat) (x1 : Int64) (a3 : Nat) (x4 : Int64) (S : CS) (post : Nat → CS → Prop) : Prop := ∀ (T12 : Nat → Int64 → Nat → Int64 → Nat → Int64 → Int32 → CS → Prop) (T46 : Nat → Int64 → Nat → Int64 → Nat → Int64 → Int32 → Int64 → CS → Prop) (T80 : Nat → Int64 → Int32 → CS → Prop), (∀ (a0 : Nat) (x1 : Int64) (a3 : Nat) (x4 : Int64) (a6 : Nat) (x7 : Int64) (x9 : Int32) (S : CS), C_grown_w12 post T12 T46 T80 a0 x1 a3 x4 a6 x7 x9 S → T12 a0 x1 a3 x4 a6 x7 x9 S) → (∀ (a0 : Nat) (x1 : Int64) (a3 : Nat) (x4 : Int64) (a6 : Nat) (x7 : Int64) (x9 : Int32) (x10 : Int64) (S : CS), C_grown_w46 post T12 T46 T80 a0 x1 a3 x4 a6 x7 x9 x10 S → T46 a0 x1 a3 x4 a6 x7 x9 x10 S) → (∀ (a6 : Nat) (x7 : Int64) (x9 : Int32) (S : CS), C_grown_w80 post T12 T46 T80 a6 x7 x9 S → T80 a6 x7 x9 S) → C_grown_w0 post T12 T46 T80 a0 x1 a3 x4 S
theorem C_grown_ok {a0 : Nat} {x1 : Int64} {a3 : Nat} {x4 : Int64} {S : CS} {post : Nat → CS → Prop} (h : C_grown_VC a0 x1 a3 x4 S post) : C_grown a0 x1 a3 x4 S post := by
  intro l D dA o sz
  refine cr_start (fun A => va_Qr (S := CS) (fun _ => True) (fun S' a t => post a S' ∧ cB D dA o A S' t) A) rfl (Nat.le_of_ble_eq_true rfl) (by decide) ?_
  intro p e s m args below meth c ls A C w hl
  have hl : lv_has ls 14 [(0, .ref a0), (1, .long x1), (3, .ref a3), (4, .long x4)] := hl
  have h := h (fun (a0 : Nat) (x1 : Int64) (a3 : Nat) (x4 : Int64) (a6 : Nat) (x7 : Int64) (x9 : Int32) S => ∀ (H : Heap) (locs : List Loc) (ls : Array Slot), lv_has ls 14 [(0, .ref a0), (1, .long x1), (3, .ref a3), (4, .long x4), (6, .ref a6), (7, .long x7), (9, .int x9)] → cw D dA o A s S H locs → W p l e (rC_grown) s m args below meth c H locs 1 21 (cQr below args s D dA o A (rC_grown) post) (F0 m 12 ls [])) (fun (a0 : Nat) (x1 : Int64) (a3 : Nat) (x4 : Int64) (a6 : Nat) (x7 : Int64) (x9 : Int32) (x10 : Int64) S => ∀ (H : Heap) (locs : List Loc) (ls : Array Slot), lv_has ls 14 [(0, .ref a0), (1, .long x1), (3, .ref a3), (4, .long x4), (6, .ref a6), (7, .long x7), (9, .int x9), (10, .long x10)] → cw D dA o A s S H locs → W p l e (rC_grown) s m args below meth c H locs 1 21 (cQr below args s D dA o A (rC_grown) post) (F0 m 46 ls [])) (fun (a6 : Nat) (x7 : Int64) (x9 : Int32) S => ∀ (H : Heap) (locs : List Loc) (ls : Array Slot), lv_has ls 14 [(6, .ref a6), (7, .long x7), (9, .int x9)] → cw D dA o A s S H locs → W p l e (rC_grown) s m args below meth c H locs 1 21 (cQr below args s D dA o A (rC_grown) post) (F0 m 80 ls [])) (fun _ _ _ _ _ _ _ S h H locs ls hl w => C_grown_a12 C (fun _ _ _ _ _ _ _ _ h => h) (fun _ _ _ _ _ _ _ _ _ h => h) (fun _ _ _ _ h => h) h hl w) (fun _ _ _ _ _ _ _ _ S h H locs ls hl w => C_grown_a46 C (fun _ _ _ _ _ _ _ _ h => h) (fun _ _ _ _ _ _ _ _ _ h => h) (fun _ _ _ _ h => h) h hl w) (fun _ _ _ S h H locs ls hl w => C_grown_a80 C (fun _ _ _ _ _ _ _ _ h => h) (fun _ _ _ _ _ _ _ _ _ h => h) (fun _ _ _ _ h => h) h hl w)
  exact C_grown_a0 C (fun _ _ _ _ _ _ _ _ h => h) (fun _ _ _ _ _ _ _ _ _ h => h) (fun _ _ _ _ h => h) h (lv_sub hl [0, 1, 2, 3] rfl) w

/-! ThirdSheets.bitsOf([J)I -/
def C_bitsOf_w26 (post : Int32 → CS → Prop) (T4 : Nat → Int32 → Int32 → CS → Prop) (v0 : Int32) (v1 : Int32) (a0 : Nat) (x2 : Int32) (S : CS) : Prop :=
  T4 a0 (v1 ||| v0) (x2 + (1 : Int32)) S
set_option maxHeartbeats 4000000 in
set_option maxRecDepth 100000 in
theorem C_bitsOf_a26 {p : Program} {l : Launch} {e : Env} {s : State} {m : MethodId} {args : Array Value} {below : List Frame} {meth : Method} {c : Code} {D : va_G} {dA : Nat → ClassId} {o : Nat → Nat} {A : Nat → Prop} {post : Int32 → CS → Prop} {T4 : Nat → Int32 → Int32 → CS → Prop} (C : cC RX0 p m c cX0_bitsOf 3 s args meth (Option.some Jvm.ClassFile.FieldType.int) A) (hT4 : ∀ (a0 : Nat) (x1 : Int32) (x2 : Int32) (S : CS), T4 a0 x1 x2 S → ∀ (H : Heap) (locs : List Loc) (ls : Array Slot), lv_has ls 3 [(0, .ref a0), (1, .int x1), (2, .int x2)] → cw D dA o A s S H locs → W p l e (rC_bitsOf) s m args below meth c H locs 0 0 (cQi below args s D dA o A (rC_bitsOf) post) (F0 m 4 ls [])) {v0 : Int32} {v1 : Int32} {a0 : Nat} {x2 : Int32} {S : CS} (h : C_bitsOf_w26 post T4 v0 v1 a0 x2 S) {H : Heap} {locs : List Loc} {ls : Array Slot} (hl : lv_has ls 3 [(0, .ref a0), (2, .int x2)]) (w : cw D dA o A s S H locs) : W p l e (rC_bitsOf) s m args below meth c H locs 0 0 (cQi below args s D dA o A (rC_bitsOf) post) (F0 m 26 ls [.int v0, .int v1]) := by
  unfold C_bitsOf_w26 at h
  obtain ⟨⟨hx, hb, hml, hown, hts⟩, hr, hlk, hA⟩ := id C
  refine lv_ior hx hb dX0_bitsOf_26 ?_
  refine lv_istore_n (lv' := [(1, .int _), (0, .ref _), (2, .int _)]) hx hb dX0_bitsOf_27 rfl hl (by decide) rfl (fun ls hl => ?_)
  refine lv_iinc (v := _ + (1 : Int32)) (lv' := [(2, .int _), (1, .int _), (0, .ref _)]) hx hb dX0_bitsOf_28 hl (k := 2) rfl rfl (by decide) rfl (fun ls hl => ?_)
  refine lv_goto (tgt := 4) hx hb dX0_bitsOf_31 (by decide) ?_
  exact hT4 _ _ _ _ h _ _ _ (lv_sub hl [2, 1, 0] rfl) w
def C_bitsOf_w4 (post : Int32 → CS → Prop) (T4 : Nat → Int32 → Int32 → CS → Prop) (a0 : Nat) (x1 : Int32) (x2 : Int32) (S : CS) : Prop :=
  (pk S a0 3 ∧ (((nI (kN S a0)) ≤ x2 → post x1 S) ∧ (¬ (nI (kN S a0)) ≤ x2 → (pk S a0 3 ∧ vp_in x2 (kN S a0) ∧ (((kR S a0 (x2).toNatClampNeg) = (0 : Int64) → C_bitsOf_w26 post T4 (0 : Int32) x1 a0 x2 S) ∧ (¬ (kR S a0 (x2).toNatClampNeg) = (0 : Int64) → C_bitsOf_w26 post T4 ((1 : Int32) <<< (x2 &&& 31)) x1 a0 x2 S))))))
set_option maxHeartbeats 4000000 in
set_option maxRecDepth 100000 in
theorem C_bitsOf_a4 {p : Program} {l : Launch} {e : Env} {s : State} {m : MethodId} {args : Array Value} {below : List Frame} {meth : Method} {c : Code} {D : va_G} {dA : Nat → ClassId} {o : Nat → Nat} {A : Nat → Prop} {post : Int32 → CS → Prop} {T4 : Nat → Int32 → Int32 → CS → Prop} (C : cC RX0 p m c cX0_bitsOf 3 s args meth (Option.some Jvm.ClassFile.FieldType.int) A) (hT4 : ∀ (a0 : Nat) (x1 : Int32) (x2 : Int32) (S : CS), T4 a0 x1 x2 S → ∀ (H : Heap) (locs : List Loc) (ls : Array Slot), lv_has ls 3 [(0, .ref a0), (1, .int x1), (2, .int x2)] → cw D dA o A s S H locs → W p l e (rC_bitsOf) s m args below meth c H locs 0 0 (cQi below args s D dA o A (rC_bitsOf) post) (F0 m 4 ls [])) {a0 : Nat} {x1 : Int32} {x2 : Int32} {S : CS} (h : C_bitsOf_w4 post T4 a0 x1 x2 S) {H : Heap} {locs : List Loc} {ls : Array Slot} (hl : lv_has ls 3 [(0, .ref a0), (1, .int x1), (2, .int x2)]) (w : cw D dA o A s S H locs) : W p l e (rC_bitsOf) s m args below meth c H locs 0 0 (cQi below args s D dA o A (rC_bitsOf) post) (F0 m 4 ls []) := by
  unfold C_bitsOf_w4 at h
  obtain ⟨⟨hx, hb, hml, hown, hts⟩, hr, hlk, hA⟩ := id C
  refine lv_iload_n hx hb dX0_bitsOf_4 rfl (lv_at hl 2 rfl) ?_
  refine lv_aload_n hx hb dX0_bitsOf_5 rfl (lv_at hl 0 rfl) ?_
  obtain ⟨hpk, h⟩ := h
  refine cr_rlen C w hpk dX0_bitsOf_6 ?_
  obtain ⟨h1, h2⟩ := h
  refine lv_icmp_ge (tgt := 34) hx hb dX0_bitsOf_7 (by decide) (fun c1 => ?_) (fun c1 => ?_)
  · have h := h1 c1
    refine lv_iload_n hx hb dX0_bitsOf_34 rfl (lv_at hl 1 rfl) ?_
    exact cr_iret C w h (Nat.le_of_ble_eq_true rfl) (Nat.le_of_ble_eq_true rfl) dX0_bitsOf_35
  · have h := h2 c1
    refine lv_iload_n hx hb dX0_bitsOf_10 rfl (lv_at hl 1 rfl) ?_
    refine lv_aload_n hx hb dX0_bitsOf_11 rfl (lv_at hl 0 rfl) ?_
    refine lv_iload_n hx hb dX0_bitsOf_12 rfl (lv_at hl 2 rfl) ?_
    obtain ⟨hpk, hi, h⟩ := h
    refine cr_rald C w hpk hi dX0_bitsOf_13 ?_
    refine lv_lconst (v := 0) hx hb dX0_bitsOf_14 (by decide) ?_
    refine W.lcmp hx hb dX0_bitsOf_15 ?_
    obtain ⟨h1, h2⟩ := h
    refine lv_if_eq (tgt := 25) hx hb dX0_bitsOf_16 (by decide) (fun c1 => ?_) (fun c1 => ?_)
    · have h := h1 ((lg_cmp_eq _ _).mp c1)
      refine lv_iconst (v := 0) hx hb dX0_bitsOf_25 (by decide) ?_
      exact C_bitsOf_a26 C hT4 h (lv_sub hl [0, 2] rfl) w
    · have h := h2 (mt (lg_cmp_eq _ _).mpr c1)
      refine lv_iconst (v := 1) hx hb dX0_bitsOf_19 (by decide) ?_
      refine lv_iload_n hx hb dX0_bitsOf_20 rfl (lv_at hl 2 rfl) ?_
      refine lv_ishl hx hb dX0_bitsOf_21 ?_
      refine lv_goto (tgt := 26) hx hb dX0_bitsOf_22 (by decide) ?_
      exact C_bitsOf_a26 C hT4 h (lv_sub hl [0, 2] rfl) w
def C_bitsOf_w0 (post : Int32 → CS → Prop) (T4 : Nat → Int32 → Int32 → CS → Prop) (a0 : Nat) (S : CS) : Prop :=
  T4 a0 (0 : Int32) (0 : Int32) S
set_option maxHeartbeats 4000000 in
set_option maxRecDepth 100000 in
theorem C_bitsOf_a0 {p : Program} {l : Launch} {e : Env} {s : State} {m : MethodId} {args : Array Value} {below : List Frame} {meth : Method} {c : Code} {D : va_G} {dA : Nat → ClassId} {o : Nat → Nat} {A : Nat → Prop} {post : Int32 → CS → Prop} {T4 : Nat → Int32 → Int32 → CS → Prop} (C : cC RX0 p m c cX0_bitsOf 3 s args meth (Option.some Jvm.ClassFile.FieldType.int) A) (hT4 : ∀ (a0 : Nat) (x1 : Int32) (x2 : Int32) (S : CS), T4 a0 x1 x2 S → ∀ (H : Heap) (locs : List Loc) (ls : Array Slot), lv_has ls 3 [(0, .ref a0), (1, .int x1), (2, .int x2)] → cw D dA o A s S H locs → W p l e (rC_bitsOf) s m args below meth c H locs 0 0 (cQi below args s D dA o A (rC_bitsOf) post) (F0 m 4 ls [])) {a0 : Nat} {S : CS} (h : C_bitsOf_w0 post T4 a0 S) {H : Heap} {locs : List Loc} {ls : Array Slot} (hl : lv_has ls 3 [(0, .ref a0)]) (w : cw D dA o A s S H locs) : W p l e (rC_bitsOf) s m args below meth c H locs 0 0 (cQi below args s D dA o A (rC_bitsOf) post) (F0 m 0 ls []) := by
  unfold C_bitsOf_w0 at h
  obtain ⟨⟨hx, hb, hml, hown, hts⟩, hr, hlk, hA⟩ := id C
  refine lv_iconst (v := 0) hx hb dX0_bitsOf_0 (by decide) ?_
  refine lv_istore_n (lv' := [(1, .int _), (0, .ref _)]) hx hb dX0_bitsOf_1 rfl hl (by decide) rfl (fun ls hl => ?_)
  refine lv_iconst (v := 0) hx hb dX0_bitsOf_2 (by decide) ?_
  refine lv_istore_n (lv' := [(2, .int _), (1, .int _), (0, .ref _)]) hx hb dX0_bitsOf_3 rfl hl (by decide) rfl (fun ls hl => ?_)
  exact hT4 _ _ _ _ h _ _ _ (lv_sub hl [2, 1, 0] rfl) w
def C_bitsOf_VC (a0 : Nat) (S : CS) (post : Int32 → CS → Prop) : Prop := ∀ (T4 : Nat → Int32 → Int32 → CS → Prop), (∀ (a0 : Nat) (x1 : Int32) (x2 : Int32) (S : CS), C_bitsOf_w4 post T4 a0 x1 x2 S → T4 a0 x1 x2 S) → C_bitsOf_w0 post T4 a0 S
theorem C_bitsOf_ok {a0 : Nat} {S : CS} {post : Int32 → CS → Prop} (h : C_bitsOf_VC a0 S post) : C_bitsOf a0 S post := by
  intro l D dA o sz
  refine cr_start (fun A => va_Qi post (cB D dA o A) A) rfl (Nat.le_of_ble_eq_true rfl) (by decide) ?_
  intro p e s m args below meth c ls A C w hl
  have hl : lv_has ls 3 [(0, .ref a0)] := hl
  have h := h (fun (a0 : Nat) (x1 : Int32) (x2 : Int32) S => ∀ (H : Heap) (locs : List Loc) (ls : Array Slot), lv_has ls 3 [(0, .ref a0), (1, .int x1), (2, .int x2)] → cw D dA o A s S H locs → W p l e (rC_bitsOf) s m args below meth c H locs 0 0 (cQi below args s D dA o A (rC_bitsOf) post) (F0 m 4 ls [])) (fun _ _ _ S h H locs ls hl w => C_bitsOf_a4 C (fun _ _ _ _ h => h) h hl w)
  exact C_bitsOf_a0 C (fun _ _ _ _ h => h) h (lv_sub hl [0] rfl) w

/-! java/lang/Integer.bitCount(I)I -/
def C_bitCount_w0 (post : Int32 → CS → Prop) (x0 : Int32) (S : CS) : Prop :=
  post ((((((((x0 - (((x0).toUInt32 >>> (((1 : Int32)).toUInt32 &&& Int32.toUInt32 31)).toInt32 &&& (1431655765 : Int32))) &&& (858993459 : Int32)) + ((((x0 - (((x0).toUInt32 >>> (((1 : Int32)).toUInt32 &&& Int32.toUInt32 31)).toInt32 &&& (1431655765 : Int32)))).toUInt32 >>> (((2 : Int32)).toUInt32 &&& Int32.toUInt32 31)).toInt32 &&& (858993459 : Int32))) + (((((x0 - (((x0).toUInt32 >>> (((1 : Int32)).toUInt32 &&& Int32.toUInt32 31)).toInt32 &&& (1431655765 : Int32))) &&& (858993459 : Int32)) + ((((x0 - (((x0).toUInt32 >>> (((1 : Int32)).toUInt32 &&& Int32.toUInt32 31)).toInt32 &&& (1431655765 : Int32)))).toUInt32 >>> (((2 : Int32)).toUInt32 &&& Int32.toUInt32 31)).toInt32 &&& (858993459 : Int32)))).toUInt32 >>> (((4 : Int32)).toUInt32 &&& Int32.toUInt32 31)).toInt32) &&& (252645135 : Int32)) + (((((((x0 - (((x0).toUInt32 >>> (((1 : Int32)).toUInt32 &&& Int32.toUInt32 31)).toInt32 &&& (1431655765 : Int32))) &&& (858993459 : Int32)) + ((((x0 - (((x0).toUInt32 >>> (((1 : Int32)).toUInt32 &&& Int32.toUInt32 31)).toInt32 &&& (1431655765 : Int32)))).toUInt32 >>> (((2 : Int32)).toUInt32 &&& Int32.toUInt32 31)).toInt32 &&& (858993459 : Int32))) + (((((x0 - (((x0).toUInt32 >>> (((1 : Int32)).toUInt32 &&& Int32.toUInt32 31)).toInt32 &&& (1431655765 : Int32))) &&& (858993459 : Int32)) + ((((x0 - (((x0).toUInt32 >>> (((1 : Int32)).toUInt32 &&& Int32.toUInt32 31)).toInt32 &&& (1431655765 : Int32)))).toUInt32 >>> (((2 : Int32)).toUInt32 &&& Int32.toUInt32 31)).toInt32 &&& (858993459 : Int32)))).toUInt32 >>> (((4 : Int32)).toUInt32 &&& Int32.toUInt32 31)).toInt32) &&& (252645135 : Int32))).toUInt32 >>> (((8 : Int32)).toUInt32 &&& Int32.toUInt32 31)).toInt32) + ((((((((x0 - (((x0).toUInt32 >>> (((1 : Int32)).toUInt32 &&& Int32.toUInt32 31)).toInt32 &&& (1431655765 : Int32))) &&& (858993459 : Int32)) + ((((x0 - (((x0).toUInt32 >>> (((1 : Int32)).toUInt32 &&& Int32.toUInt32 31)).toInt32 &&& (1431655765 : Int32)))).toUInt32 >>> (((2 : Int32)).toUInt32 &&& Int32.toUInt32 31)).toInt32 &&& (858993459 : Int32))) + (((((x0 - (((x0).toUInt32 >>> (((1 : Int32)).toUInt32 &&& Int32.toUInt32 31)).toInt32 &&& (1431655765 : Int32))) &&& (858993459 : Int32)) + ((((x0 - (((x0).toUInt32 >>> (((1 : Int32)).toUInt32 &&& Int32.toUInt32 31)).toInt32 &&& (1431655765 : Int32)))).toUInt32 >>> (((2 : Int32)).toUInt32 &&& Int32.toUInt32 31)).toInt32 &&& (858993459 : Int32)))).toUInt32 >>> (((4 : Int32)).toUInt32 &&& Int32.toUInt32 31)).toInt32) &&& (252645135 : Int32)) + (((((((x0 - (((x0).toUInt32 >>> (((1 : Int32)).toUInt32 &&& Int32.toUInt32 31)).toInt32 &&& (1431655765 : Int32))) &&& (858993459 : Int32)) + ((((x0 - (((x0).toUInt32 >>> (((1 : Int32)).toUInt32 &&& Int32.toUInt32 31)).toInt32 &&& (1431655765 : Int32)))).toUInt32 >>> (((2 : Int32)).toUInt32 &&& Int32.toUInt32 31)).toInt32 &&& (858993459 : Int32))) + (((((x0 - (((x0).toUInt32 >>> (((1 : Int32)).toUInt32 &&& Int32.toUInt32 31)).toInt32 &&& (1431655765 : Int32))) &&& (858993459 : Int32)) + ((((x0 - (((x0).toUInt32 >>> (((1 : Int32)).toUInt32 &&& Int32.toUInt32 31)).toInt32 &&& (1431655765 : Int32)))).toUInt32 >>> (((2 : Int32)).toUInt32 &&& Int32.toUInt32 31)).toInt32 &&& (858993459 : Int32)))).toUInt32 >>> (((4 : Int32)).toUInt32 &&& Int32.toUInt32 31)).toInt32) &&& (252645135 : Int32))).toUInt32 >>> (((8 : Int32)).toUInt32 &&& Int32.toUInt32 31)).toInt32)).toUInt32 >>> (((16 : Int32)).toUInt32 &&& Int32.toUInt32 31)).toInt32) &&& (63 : Int32)) S
set_option maxHeartbeats 4000000 in
set_option maxRecDepth 100000 in
theorem C_bitCount_a0 {p : Program} {l : Launch} {e : Env} {s : State} {m : MethodId} {args : Array Value} {below : List Frame} {meth : Method} {c : Code} {D : va_G} {dA : Nat → ClassId} {o : Nat → Nat} {A : Nat → Prop} {post : Int32 → CS → Prop} (C : cC RJ1 p m c cJ1_bitCount 1 s args meth (Option.some Jvm.ClassFile.FieldType.int) A) {x0 : Int32} {S : CS} (h : C_bitCount_w0 post x0 S) {H : Heap} {locs : List Loc} {ls : Array Slot} (hl : lv_has ls 1 [(0, .int x0)]) (w : cw D dA o A s S H locs) : W p l e (rC_bitCount) s m args below meth c H locs 0 0 (cQi below args s D dA o A (rC_bitCount) post) (F0 m 0 ls []) := by
  unfold C_bitCount_w0 at h
  obtain ⟨⟨hx, hb, hml, hown, hts⟩, hr, hlk, hA⟩ := id C
  refine lv_iload_n hx hb dJ1_bitCount_0 rfl (lv_at hl 0 rfl) ?_
  refine lv_iload_n hx hb dJ1_bitCount_1 rfl (lv_at hl 0 rfl) ?_
  refine lv_iconst (v := 1) hx hb dJ1_bitCount_2 (by decide) ?_
  refine lv_iushr hx hb dJ1_bitCount_3 rfl ?_
  refine lv_ldcw hx hb hown (hts _ q470) dJ1_bitCount_4 ?_
  refine lv_iand hx hb dJ1_bitCount_7 ?_
  refine lv_isub hx hb dJ1_bitCount_8 ?_
  refine lv_istore_n (lv' := [(0, .int _)]) hx hb dJ1_bitCount_9 rfl hl (by decide) rfl (fun ls hl => ?_)
  refine lv_iload_n hx hb dJ1_bitCount_10 rfl (lv_at hl 0 rfl) ?_
  refine lv_ldcw hx hb hown (hts _ q471) dJ1_bitCount_11 ?_
  refine lv_iand hx hb dJ1_bitCount_14 ?_
  refine lv_iload_n hx hb dJ1_bitCount_15 rfl (lv_at hl 0 rfl) ?_
  refine lv_iconst (v := 2) hx hb dJ1_bitCount_16 (by decide) ?_
  refine lv_iushr hx hb dJ1_bitCount_17 rfl ?_
  refine lv_ldcw hx hb hown (hts _ q471) dJ1_bitCount_18 ?_
  refine lv_iand hx hb dJ1_bitCount_21 ?_
  refine lv_iadd hx hb dJ1_bitCount_22 ?_
  refine lv_istore_n (lv' := [(0, .int _)]) hx hb dJ1_bitCount_23 rfl hl (by decide) rfl (fun ls hl => ?_)
  refine lv_iload_n hx hb dJ1_bitCount_24 rfl (lv_at hl 0 rfl) ?_
  refine lv_iload_n hx hb dJ1_bitCount_25 rfl (lv_at hl 0 rfl) ?_
  refine lv_iconst (v := 4) hx hb dJ1_bitCount_26 (by decide) ?_
  refine lv_iushr hx hb dJ1_bitCount_27 rfl ?_
  refine lv_iadd hx hb dJ1_bitCount_28 ?_
  refine lv_ldcw hx hb hown (hts _ q472) dJ1_bitCount_29 ?_
  refine lv_iand hx hb dJ1_bitCount_32 ?_
  refine lv_istore_n (lv' := [(0, .int _)]) hx hb dJ1_bitCount_33 rfl hl (by decide) rfl (fun ls hl => ?_)
  refine lv_iload_n hx hb dJ1_bitCount_34 rfl (lv_at hl 0 rfl) ?_
  refine lv_iload_n hx hb dJ1_bitCount_35 rfl (lv_at hl 0 rfl) ?_
  refine lv_bipush (v := 8) hx hb dJ1_bitCount_36 (by decide) ?_
  refine lv_iushr hx hb dJ1_bitCount_38 rfl ?_
  refine lv_iadd hx hb dJ1_bitCount_39 ?_
  refine lv_istore_n (lv' := [(0, .int _)]) hx hb dJ1_bitCount_40 rfl hl (by decide) rfl (fun ls hl => ?_)
  refine lv_iload_n hx hb dJ1_bitCount_41 rfl (lv_at hl 0 rfl) ?_
  refine lv_iload_n hx hb dJ1_bitCount_42 rfl (lv_at hl 0 rfl) ?_
  refine lv_bipush (v := 16) hx hb dJ1_bitCount_43 (by decide) ?_
  refine lv_iushr hx hb dJ1_bitCount_45 rfl ?_
  refine lv_iadd hx hb dJ1_bitCount_46 ?_
  refine lv_istore_n (lv' := [(0, .int _)]) hx hb dJ1_bitCount_47 rfl hl (by decide) rfl (fun ls hl => ?_)
  refine lv_iload_n hx hb dJ1_bitCount_48 rfl (lv_at hl 0 rfl) ?_
  refine lv_bipush (v := 63) hx hb dJ1_bitCount_49 (by decide) ?_
  refine lv_iand hx hb dJ1_bitCount_51 ?_
  exact cr_iret C w h (Nat.le_of_ble_eq_true rfl) (Nat.le_of_ble_eq_true rfl) dJ1_bitCount_52
def C_bitCount_VC (x0 : Int32) (S : CS) (post : Int32 → CS → Prop) : Prop := C_bitCount_w0 post x0 S
theorem C_bitCount_ok {x0 : Int32} {S : CS} {post : Int32 → CS → Prop} (h : C_bitCount_VC x0 S post) : C_bitCount x0 S post := by
  intro l D dA o sz
  refine cr_start (fun A => va_Qi post (cB D dA o A) A) rfl (Nat.le_of_ble_eq_true rfl) (by decide) ?_
  intro p e s m args below meth c ls A C w hl
  have hl : lv_has ls 1 [(0, .int x0)] := hl
  exact C_bitCount_a0 C h (lv_sub hl [0] rfl) w

/-! ThirdSheets.isAlone(I)Z -/
def C_isAlone_w36 (post : Int32 → CS → Prop) (T4 : Int32 → Int32 → Int32 → CS → Prop) (v0 : Int32) (v1 : Int32) (x1 : Int32) (x3 : Int32) (S : CS) : Prop :=
  T4 x1 (v1 &&& v0) (x3 + (1 : Int32)) S
set_option maxHeartbeats 4000000 in
set_option maxRecDepth 100000 in
theorem C_isAlone_a36 {p : Program} {l : Launch} {e : Env} {s : State} {m : MethodId} {args : Array Value} {below : List Frame} {meth : Method} {c : Code} {D : va_G} {dA : Nat → ClassId} {o : Nat → Nat} {A : Nat → Prop} {post : Int32 → CS → Prop} {T4 : Int32 → Int32 → Int32 → CS → Prop} (C : cC RX0 p m c cX0_isAlone 4 s args meth (Option.some Jvm.ClassFile.FieldType.boolean) A) (hT4 : ∀ (x1 : Int32) (x2 : Int32) (x3 : Int32) (S : CS), T4 x1 x2 x3 S → ∀ (H : Heap) (locs : List Loc) (ls : Array Slot), lv_has ls 4 [(0, .ref (o 0)), (1, .int x1), (2, .int x2), (3, .int x3)] → cw D dA o A s S H locs → W p l e (rC_isAlone) s m args below meth c H locs 0 0 (cQi below args s D dA o A (rC_isAlone) post) (F0 m 4 ls [])) {v0 : Int32} {v1 : Int32} {x1 : Int32} {x3 : Int32} {S : CS} (h : C_isAlone_w36 post T4 v0 v1 x1 x3 S) {H : Heap} {locs : List Loc} {ls : Array Slot} (hl : lv_has ls 4 [(0, .ref (o 0)), (1, .int x1), (3, .int x3)]) (w : cw D dA o A s S H locs) : W p l e (rC_isAlone) s m args below meth c H locs 0 0 (cQi below args s D dA o A (rC_isAlone) post) (F0 m 36 ls [.int v0, .int v1]) := by
  unfold C_isAlone_w36 at h
  obtain ⟨⟨hx, hb, hml, hown, hts⟩, hr, hlk, hA⟩ := id C
  refine lv_iand hx hb dX0_isAlone_36 ?_
  refine lv_istore_n (lv' := [(2, .int _), (0, .ref _), (1, .int _), (3, .int _)]) hx hb dX0_isAlone_37 rfl hl (by decide) rfl (fun ls hl => ?_)
  refine lv_iinc (v := _ + (1 : Int32)) (lv' := [(3, .int _), (2, .int _), (0, .ref _), (1, .int _)]) hx hb dX0_isAlone_38 hl (k := 3) rfl rfl (by decide) rfl (fun ls hl => ?_)
  refine lv_goto (tgt := 4) hx hb dX0_isAlone_41 (by decide) ?_
  exact hT4 _ _ _ _ h _ _ _ (lv_sub hl [2, 3, 1, 0] rfl) w
def C_isAlone_w4 (post : Int32 → CS → Prop) (T4 : Int32 → Int32 → Int32 → CS → Prop) (x1 : Int32) (x2 : Int32) (x3 : Int32) (S : CS) : Prop :=
  (((kF S 1) ≤ x3 → (zok x2 ∧ post x2 S)) ∧ (¬ (kF S 1) ≤ x3 → C_bitCount ((x1 >>> ((((7 : Int32) * x3) + (4 : Int32)) &&& 31)) &&& (7 : Int32)) S (fun (r1 : Int32) (S1 : CS) => (((2 : Int32) ≤ r1 → C_isAlone_w36 post T4 (0 : Int32) x2 x1 x3 S1) ∧ (¬ (2 : Int32) ≤ r1 → C_isAlone_w36 post T4 (1 : Int32) x2 x1 x3 S1)))))
set_option maxHeartbeats 4000000 in
set_option maxRecDepth 100000 in
theorem C_isAlone_a4 {p : Program} {l : Launch} {e : Env} {s : State} {m : MethodId} {args : Array Value} {below : List Frame} {meth : Method} {c : Code} {D : va_G} {dA : Nat → ClassId} {o : Nat → Nat} {A : Nat → Prop} {post : Int32 → CS → Prop} {T4 : Int32 → Int32 → Int32 → CS → Prop} (C : cC RX0 p m c cX0_isAlone 4 s args meth (Option.some Jvm.ClassFile.FieldType.boolean) A) (hT4 : ∀ (x1 : Int32) (x2 : Int32) (x3 : Int32) (S : CS), T4 x1 x2 x3 S → ∀ (H : Heap) (locs : List Loc) (ls : Array Slot), lv_has ls 4 [(0, .ref (o 0)), (1, .int x1), (2, .int x2), (3, .int x3)] → cw D dA o A s S H locs → W p l e (rC_isAlone) s m args below meth c H locs 0 0 (cQi below args s D dA o A (rC_isAlone) post) (F0 m 4 ls [])) {x1 : Int32} {x2 : Int32} {x3 : Int32} {S : CS} (h : C_isAlone_w4 post T4 x1 x2 x3 S) {H : Heap} {locs : List Loc} {ls : Array Slot} (hl : lv_has ls 4 [(0, .ref (o 0)), (1, .int x1), (2, .int x2), (3, .int x3)]) (w : cw D dA o A s S H locs) : W p l e (rC_isAlone) s m args below meth c H locs 0 0 (cQi below args s D dA o A (rC_isAlone) post) (F0 m 4 ls []) := by
  unfold C_isAlone_w4 at h
  obtain ⟨⟨hx, hb, hml, hown, hts⟩, hr, hlk, hA⟩ := id C
  refine lv_iload_n hx hb dX0_isAlone_4 rfl (lv_at hl 3 rfl) ?_
  refine lv_aload_n hx hb dX0_isAlone_5 rfl (lv_at hl 0 rfl) ?_
  refine cr_get C w 0 rfl rfl in_X0 1 (by decide) q164 rfl rfl dX0_isAlone_6 ?_
  obtain ⟨h1, h2⟩ := h
  refine lv_icmp_ge (tgt := 44) hx hb dX0_isAlone_9 (by decide) (fun c1 => ?_) (fun c1 => ?_)
  · have h := h1 c1
    refine lv_iload_n hx hb dX0_isAlone_44 rfl (lv_at hl 2 rfl) ?_
    exact cr_zret C w (zok_n h.1) h.2 (Nat.le_of_ble_eq_true rfl) (Nat.le_of_ble_eq_true rfl) dX0_isAlone_45
  · have h := h2 c1
    refine lv_iload_n hx hb dX0_isAlone_12 rfl (lv_at hl 2 rfl) ?_
    refine lv_iload_n hx hb dX0_isAlone_13 rfl (lv_at hl 1 rfl) ?_
    refine lv_bipush (v := 7) hx hb dX0_isAlone_14 (by decide) ?_
    refine lv_iload_n hx hb dX0_isAlone_16 rfl (lv_at hl 3 rfl) ?_
    refine lv_imul hx hb dX0_isAlone_17 ?_
    refine lv_iconst (v := 4) hx hb dX0_isAlone_18 (by decide) ?_
    refine lv_iadd hx hb dX0_isAlone_19 ?_
    refine lv_ishr hx hb dX0_isAlone_20 ?_
    refine lv_bipush (v := 7) hx hb dX0_isAlone_21 (by decide) ?_
    refine lv_iand hx hb dX0_isAlone_23 ?_
    refine cr_callSI (rest := [.int _]) C w h (va_cwS 1 hts (lw_S q467 q468 q91 q469) rfl rfl rfl C_bitCount_d ⟨Nat.le_of_ble_eq_true rfl, Nat.le_of_ble_eq_true rfl⟩) rfl hl.1 rfl (Nat.le_of_ble_eq_true rfl) ⟨Nat.le_of_ble_eq_true rfl, Nat.le_of_ble_eq_true rfl⟩ dX0_isAlone_24 (fun r1 S1 H locs h w => ?_)
    refine lv_iconst (v := 2) hx hb dX0_isAlone_27 (by decide) ?_
    obtain ⟨h1, h2⟩ := h
    refine lv_icmp_ge (tgt := 35) hx hb dX0_isAlone_28 (by decide) (fun c1 => ?_) (fun c1 => ?_)
    · have h := h1 c1
      refine lv_iconst (v := 0) hx hb dX0_isAlone_35 (by decide) ?_
      exact C_isAlone_a36 C hT4 h (lv_sub hl [0, 1, 3] rfl) w
    · have h := h2 c1
      refine lv_iconst (v := 1) hx hb dX0_isAlone_31 (by decide) ?_
      refine lv_goto (tgt := 36) hx hb dX0_isAlone_32 (by decide) ?_
      exact C_isAlone_a36 C hT4 h (lv_sub hl [0, 1, 3] rfl) w
def C_isAlone_w0 (post : Int32 → CS → Prop) (T4 : Int32 → Int32 → Int32 → CS → Prop) (x1 : Int32) (S : CS) : Prop :=
  T4 x1 (1 : Int32) (0 : Int32) S
set_option maxHeartbeats 4000000 in
set_option maxRecDepth 100000 in
theorem C_isAlone_a0 {p : Program} {l : Launch} {e : Env} {s : State} {m : MethodId} {args : Array Value} {below : List Frame} {meth : Method} {c : Code} {D : va_G} {dA : Nat → ClassId} {o : Nat → Nat} {A : Nat → Prop} {post : Int32 → CS → Prop} {T4 : Int32 → Int32 → Int32 → CS → Prop} (C : cC RX0 p m c cX0_isAlone 4 s args meth (Option.some Jvm.ClassFile.FieldType.boolean) A) (hT4 : ∀ (x1 : Int32) (x2 : Int32) (x3 : Int32) (S : CS), T4 x1 x2 x3 S → ∀ (H : Heap) (locs : List Loc) (ls : Array Slot), lv_has ls 4 [(0, .ref (o 0)), (1, .int x1), (2, .int x2), (3, .int x3)] → cw D dA o A s S H locs → W p l e (rC_isAlone) s m args below meth c H locs 0 0 (cQi below args s D dA o A (rC_isAlone) post) (F0 m 4 ls [])) {x1 : Int32} {S : CS} (h : C_isAlone_w0 post T4 x1 S) {H : Heap} {locs : List Loc} {ls : Array Slot} (hl : lv_has ls 4 [(0, .ref (o 0)), (1, .int x1)]) (w : cw D dA o A s S H locs) : W p l e (rC_isAlone) s m args below meth c H locs 0 0 (cQi below args s D dA o A (rC_isAlone) post) (F0 m 0 ls []) := by
  unfold C_isAlone_w0 at h
  obtain ⟨⟨hx, hb, hml, hown, hts⟩, hr, hlk, hA⟩ := id C
  refine lv_iconst (v := 1) hx hb dX0_isAlone_0 (by decide) ?_
  refine lv_istore_n (lv' := [(2, .int _), (0, .ref _), (1, .int _)]) hx hb dX0_isAlone_1 rfl hl (by decide) rfl (fun ls hl => ?_)
  refine lv_iconst (v := 0) hx hb dX0_isAlone_2 (by decide) ?_
  refine lv_istore_n (lv' := [(3, .int _), (2, .int _), (0, .ref _), (1, .int _)]) hx hb dX0_isAlone_3 rfl hl (by decide) rfl (fun ls hl => ?_)
  exact hT4 _ _ _ _ h _ _ _ (lv_sub hl [2, 3, 1, 0] rfl) w
def C_isAlone_VC (x1 : Int32) (S : CS) (post : Int32 → CS → Prop) : Prop := ∀ (T4 : Int32 → Int32 → Int32 → CS → Prop), (∀ (x1 : Int32) (x2 : Int32) (x3 : Int32) (S : CS), C_isAlone_w4 post T4 x1 x2 x3 S → T4 x1 x2 x3 S) → C_isAlone_w0 post T4 x1 S
theorem C_isAlone_ok {x1 : Int32} {S : CS} {post : Int32 → CS → Prop} (h : C_isAlone_VC x1 S post) : C_isAlone x1 S post := by
  intro l D dA o sz
  refine cr_start (fun A => va_Qi post (cB D dA o A) A) rfl (Nat.le_of_ble_eq_true rfl) (by decide) ?_
  intro p e s m args below meth c ls A C w hl
  have hl : lv_has ls 4 [(0, .ref (o 0)), (1, .int x1)] := hl
  have h := h (fun (x1 : Int32) (x2 : Int32) (x3 : Int32) S => ∀ (H : Heap) (locs : List Loc) (ls : Array Slot), lv_has ls 4 [(0, .ref (o 0)), (1, .int x1), (2, .int x2), (3, .int x3)] → cw D dA o A s S H locs → W p l e (rC_isAlone) s m args below meth c H locs 0 0 (cQi below args s D dA o A (rC_isAlone) post) (F0 m 4 ls [])) (fun _ _ _ S h H locs ls hl w => C_isAlone_a4 C (fun _ _ _ _ h => h) h hl w)
  exact C_isAlone_a0 C (fun _ _ _ _ h => h) h (lv_sub hl [0, 1] rfl) w

/-! ThirdSheets.off([JIII)J -/
def C_off_w0 (post : Int64 → CS → Prop) (a1 : Nat) (x2 : Int32) (x3 : Int32) (x4 : Int32) (S : CS) : Prop :=
  (vp_in x2 3 ∧ (vp_in x3 4 ∧ (∃ g2 : Nat, (kGl S ((x2).toNatClampNeg) (x3).toNatClampNeg) = some g2 ∧ pk S g2 0 ∧ (pk S (kG S g2).2.2 1 ∧ vp_in x4 (kN S (kG S g2).2.2) ∧ (pk S a1 3 ∧ vp_in (((7 : Int32) * x2) + x4) (kN S a1) ∧ C_kindOf x4 x3 S (fun (r3 : Int32) (S3 : CS) => (pk S3 a1 3 ∧ vp_in ((((7 : Int32) * x2) + (4 : Int32)) + r3) (kN S3 a1) ∧ (∃ g4 : Nat, (kGl S ((x2).toNatClampNeg) (x3).toNatClampNeg) = some g4 ∧ pk S3 g4 0 ∧ (pk S3 a1 3 ∧ vp_in (((7 : Int32) * (kG S3 g4).1) + (kT S (kG S g2).2.2 (x4).toNatClampNeg)) (kN S3 a1) ∧ (∃ g5 : Nat, (kGl S ((x2).toNatClampNeg) (x3).toNatClampNeg) = some g5 ∧ pk S3 g5 0 ∧ (∃ g6 : Nat, (kGl S ((x2).toNatClampNeg) (x3).toNatClampNeg) = some g6 ∧ pk S3 g6 0 ∧ C_kindOf (kT S (kG S g2).2.2 (x4).toNatClampNeg) (kG S3 g6).2.1 S3 (fun (r7 : Int32) (S7 : CS) => (pk S7 a1 3 ∧ vp_in ((((7 : Int32) * (kG S3 g5).1) + (4 : Int32)) + r7) (kN S7 a1) ∧ post ((((kR S a1 ((((7 : Int32) * x2) + x4)).toNatClampNeg) + (kR S3 a1 (((((7 : Int32) * x2) + (4 : Int32)) + r3)).toNatClampNeg)) - (kR S3 a1 ((((7 : Int32) * (kG S3 g4).1) + (kT S (kG S g2).2.2 (x4).toNatClampNeg))).toNatClampNeg)) - (kR S7 a1 (((((7 : Int32) * (kG S3 g5).1) + (4 : Int32)) + r7)).toNatClampNeg)) S7)))))))))))))
set_option maxHeartbeats 4000000 in
set_option maxRecDepth 100000 in
theorem C_off_a0 {p : Program} {l : Launch} {e : Env} {s : State} {m : MethodId} {args : Array Value} {below : List Frame} {meth : Method} {c : Code} {D : va_G} {dA : Nat → ClassId} {o : Nat → Nat} {A : Nat → Prop} {post : Int64 → CS → Prop} (C : cC RX0 p m c cX0_off 9 s args meth (Option.some Jvm.ClassFile.FieldType.long) A) {a1 : Nat} {x2 : Int32} {x3 : Int32} {x4 : Int32} {S : CS} (h : C_off_w0 post a1 x2 x3 x4 S) {H : Heap} {locs : List Loc} {ls : Array Slot} (hl : lv_has ls 9 [(0, .ref (o 0)), (1, .ref a1), (2, .int x2), (3, .int x3), (4, .int x4)]) (w : cw D dA o A s S H locs) : W p l e (rC_off) s m args below meth c H locs 0 0 (cQl below args s D dA o A (rC_off) post) (F0 m 0 ls []) := by
  unfold C_off_w0 at h
  obtain ⟨⟨hx, hb, hml, hown, hts⟩, hr, hlk, hA⟩ := id C
  refine lv_aload_n hx hb dX0_off_0 rfl (lv_at hl 0 rfl) ?_
  refine cr_get C w 0 rfl rfl in_X0 0 (by decide) q162 rfl rfl dX0_off_1 ?_
  refine lv_iload_n hx hb dX0_off_4 rfl (lv_at hl 2 rfl) ?_
  obtain ⟨hi, h⟩ := h
  have hj1 := vp_lt hi
  refine cr_gout C w hi dX0_off_5 ?_
  refine lv_iload_n hx hb dX0_off_6 rfl (lv_at hl 3 rfl) ?_
  obtain ⟨hi, h⟩ := h
  refine cr_gin C w hj1 hi dX0_off_7 ?_
  refine lv_astoreQ (lv' := [(5, va_rf _), (0, .ref _), (1, .ref _), (2, .int _), (3, .int _), (4, .int _)]) hx hb dX0_off_8 hl (by decide) rfl (fun ls hl => ?_)
  refine lv_aloadQ hx hb dX0_off_10 (lv_at hl 0 rfl) ?_
  obtain ⟨g2, hg, hpk, h⟩ := h
  refine cr_opt hg ?_
  refine cr_getGt C w hpk nwF_RX0_175 dX0_off_12 ?_
  refine lv_iload hx hb dX0_off_15 (lv_at hl 5 rfl) ?_
  obtain ⟨hpk, hi, h⟩ := h
  refine cr_tald C w hpk hi dX0_off_17 ?_
  refine lv_istore (lv' := [(6, .int _), (5, va_rf _), (0, .ref _), (1, .ref _), (2, .int _), (3, .int _), (4, .int _)]) hx hb dX0_off_18 hl (by decide) ((congrArg (List.cons _) (lv_filtC (by intro q hq hq1; simp only [List.mem_cons, List.not_mem_nil, or_false] at hq; rcases hq with rfl | rfl | rfl | rfl | rfl | rfl <;> first | exact va_rf_cat _ | (exfalso; simp at hq1)))).trans rfl) (fun ls hl => ?_)
  refine lv_aload_n hx hb dX0_off_20 rfl (lv_at hl 3 rfl) ?_
  refine lv_bipush (v := 7) hx hb dX0_off_21 (by decide) ?_
  refine lv_iload_n hx hb dX0_off_23 rfl (lv_at hl 4 rfl) ?_
  refine lv_imul hx hb dX0_off_24 ?_
  refine lv_iload hx hb dX0_off_25 (lv_at hl 6 rfl) ?_
  refine lv_iadd hx hb dX0_off_27 ?_
  obtain ⟨hpk, hi, h⟩ := h
  refine cr_rald C w hpk hi dX0_off_28 ?_
  refine lv_aload_n hx hb dX0_off_29 rfl (lv_at hl 3 rfl) ?_
  refine lv_bipush (v := 7) hx hb dX0_off_30 (by decide) ?_
  refine lv_iload_n hx hb dX0_off_32 rfl (lv_at hl 4 rfl) ?_
  refine lv_imul hx hb dX0_off_33 ?_
  refine lv_iconst (v := 4) hx hb dX0_off_34 (by decide) ?_
  refine lv_iadd hx hb dX0_off_35 ?_
  refine lv_iload hx hb dX0_off_36 (lv_at hl 6 rfl) ?_
  refine lv_iload_n hx hb dX0_off_38 rfl (lv_at hl 5 rfl) ?_
  refine cr_callSI (rest := [.int _, .ref _, .long _]) C w h (va_cwS 2 hts (lw_S q453 q454 q82 q455) rfl rfl rfl C_kindOf_d ⟨Nat.le_of_ble_eq_true rfl, Nat.le_of_ble_eq_true rfl⟩) rfl hl.1 rfl (Nat.le_of_ble_eq_true rfl) ⟨Nat.le_of_ble_eq_true rfl, Nat.le_of_ble_eq_true rfl⟩ dX0_off_39 (fun r3 S3 H locs h w => ?_)
  refine lv_iadd hx hb dX0_off_42 ?_
  obtain ⟨hpk, hi, h⟩ := h
  refine cr_rald C w hpk hi dX0_off_43 ?_
  refine lv_ladd hx hb dX0_off_44 ?_
  refine lv_lstore (lv' := [(7, .long _), (6, .int _), (5, va_rf _), (0, .ref _), (1, .ref _), (2, .int _), (3, .int _), (4, .int _)]) hx hb dX0_off_45 hl (by decide) rfl (fun ls hl => ?_)
  refine lv_lload hx hb dX0_off_47 (lv_at hl 0 rfl) ?_
  refine lv_aload_n hx hb dX0_off_49 rfl (lv_at hl 4 rfl) ?_
  refine lv_bipush (v := 7) hx hb dX0_off_50 (by decide) ?_
  refine lv_aloadQ hx hb dX0_off_52 (lv_at hl 2 rfl) ?_
  obtain ⟨g4, hg, hpk, h⟩ := h
  refine cr_opt hg ?_
  refine cr_getGp C w hpk nwF_RX0_116 dX0_off_54 ?_
  refine lv_imul hx hb dX0_off_57 ?_
  refine lv_iload hx hb dX0_off_58 (lv_at hl 1 rfl) ?_
  refine lv_iadd hx hb dX0_off_60 ?_
  obtain ⟨hpk, hi, h⟩ := h
  refine cr_rald C w hpk hi dX0_off_61 ?_
  refine lv_lsub hx hb dX0_off_62 ?_
  refine lv_aload_n hx hb dX0_off_63 rfl (lv_at hl 4 rfl) ?_
  refine lv_bipush (v := 7) hx hb dX0_off_64 (by decide) ?_
  refine lv_aloadQ hx hb dX0_off_66 (lv_at hl 2 rfl) ?_
  obtain ⟨g5, hg, hpk, h⟩ := h
  refine cr_opt hg ?_
  refine cr_getGp C w hpk nwF_RX0_116 dX0_off_68 ?_
  refine lv_imul hx hb dX0_off_71 ?_
  refine lv_iconst (v := 4) hx hb dX0_off_72 (by decide) ?_
  refine lv_iadd hx hb dX0_off_73 ?_
  refine lv_iload hx hb dX0_off_74 (lv_at hl 1 rfl) ?_
  refine lv_aloadQ hx hb dX0_off_76 (lv_at hl 2 rfl) ?_
  obtain ⟨g6, hg, hpk, h⟩ := h
  refine cr_opt hg ?_
  refine cr_getGs C w hpk nwF_RX0_119 dX0_off_78 ?_
  refine cr_callSI (rest := [.int _, .ref _, .long _]) C w h (va_cwS 2 hts (lw_S q453 q454 q82 q455) rfl rfl rfl C_kindOf_d ⟨Nat.le_of_ble_eq_true rfl, Nat.le_of_ble_eq_true rfl⟩) rfl hl.1 rfl (Nat.le_of_ble_eq_true rfl) ⟨Nat.le_of_ble_eq_true rfl, Nat.le_of_ble_eq_true rfl⟩ dX0_off_81 (fun r7 S7 H locs h w => ?_)
  refine lv_iadd hx hb dX0_off_84 ?_
  obtain ⟨hpk, hi, h⟩ := h
  refine cr_rald C w hpk hi dX0_off_85 ?_
  refine lv_lsub hx hb dX0_off_86 ?_
  exact cr_lret C w h (Nat.le_of_ble_eq_true rfl) (Nat.le_of_ble_eq_true rfl) dX0_off_87
def C_off_VC (a1 : Nat) (x2 : Int32) (x3 : Int32) (x4 : Int32) (S : CS) (post : Int64 → CS → Prop) : Prop := C_off_w0 post a1 x2 x3 x4 S
theorem C_off_ok {a1 : Nat} {x2 : Int32} {x3 : Int32} {x4 : Int32} {S : CS} {post : Int64 → CS → Prop} (h : C_off_VC a1 x2 x3 x4 S post) : C_off a1 x2 x3 x4 S post := by
  intro l D dA o sz
  refine cr_start (fun A => va_Ql post (cB D dA o A) A) rfl (Nat.le_of_ble_eq_true rfl) (by decide) ?_
  intro p e s m args below meth c ls A C w hl
  have hl : lv_has ls 9 [(0, .ref (o 0)), (1, .ref a1), (2, .int x2), (3, .int x3), (4, .int x4)] := hl
  exact C_off_a0 C h (lv_sub hl [0, 1, 2, 3, 4] rfl) w

/-! ThirdSheets.keep([J)V -/
def C_keep_w41 (mc ms : Nat) (post : CS → Prop) (a1 : Nat) (uc : Nat) (us : Nat) (S : CS) : Prop :=
  (pk S (kA S 11) 2 ∧ pk S a1 3 ∧ vp_in (kF S 12) (kN S (kA S 11)) ∧ (fun (S1 : CS) => (fun (S2 : CS) => post S2) (tF S1 12 ((kF S1 12) + (1 : Int32)))) (tO S (kA S 11) ((kF S 12)).toNatClampNeg (some a1)))
set_option maxHeartbeats 4000000 in
set_option maxRecDepth 100000 in
theorem C_keep_a41 {p : Program} {l : Launch} {e : Env} {s : State} {m : MethodId} {args : Array Value} {below : List Frame} {meth : Method} {c : Code} {D : va_G} {dA : Nat → ClassId} {o : Nat → Nat} {A : Nat → Prop} {mc ms : Nat} {post : CS → Prop} (C : cC RX0 p m c cX0_keep 3 s args meth (Option.none : Option Jvm.ClassFile.FieldType) A) {a1 : Nat} {uc : Nat} {us : Nat} {S : CS} (h : C_keep_w41 mc ms post a1 uc us S) (hu : uc ≤ mc ∧ us ≤ ms) {H : Heap} {locs : List Loc} {ls : Array Slot} (hl : lv_has ls 3 [(0, .ref (o 0)), (1, .ref a1)]) (w : cw D dA o A s S H locs) : W p l e (rC_keep mc ms) s m args below meth c H locs uc us (cQv below args s D dA o A (rC_keep mc ms) post) (F0 m 41 ls []) := by
  unfold C_keep_w41 at h
  obtain ⟨⟨hx, hb, hml, hown, hts⟩, hr, hlk, hA⟩ := id C
  refine lv_aload_n hx hb dX0_keep_41 rfl (lv_at hl 0 rfl) ?_
  refine cr_get C w 0 rfl rfl in_X0 11 (by decide) q175 rfl rfl dX0_keep_42 ?_
  refine lv_aload_n hx hb dX0_keep_45 rfl (lv_at hl 0 rfl) ?_
  refine cr_get C w 0 rfl rfl in_X0 12 (by decide) q176 rfl rfl dX0_keep_46 ?_
  refine lv_aload_n hx hb dX0_keep_49 rfl (lv_at hl 1 rfl) ?_
  obtain ⟨hpk, hpr, hi, h⟩ := h
  refine cr_oast C w hpk hpr hi dX0_keep_50 (fun H locs w => ?_)
  refine lv_aload_n hx hb dX0_keep_51 rfl (lv_at hl 0 rfl) ?_
  refine lv_dup hx hb dX0_keep_52 rfl ?_
  refine cr_get C w 0 rfl rfl in_X0 12 (by decide) q176 rfl rfl dX0_keep_53 ?_
  refine lv_iconst (v := 1) hx hb dX0_keep_56 (by decide) ?_
  refine lv_iadd hx hb dX0_keep_57 ?_
  refine cr_put (ty := .int) C w 12 (by decide) q176 rfl rfl (by decide +kernel) rfl rfl CWf_12 dX0_keep_58 (fun H locs w => ?_)
  exact cr_vret C w h hu.1 hu.2 dX0_keep_61
def C_keep_w0 (mc ms : Nat) (post : CS → Prop) (a1 : Nat) (uc : Nat) (us : Nat) (S : CS) : Prop :=
  (pk S (kA S 11) 2 ∧ ((¬ (kF S 12) = (nI (kN S (kA S 11))) → C_keep_w41 mc ms post a1 uc us S) ∧ ((kF S 12) = (nI (kN S (kA S 11))) → (¬ ((2 : Int32) * (kF S 12)) < 0 ∧ (((2 : Int32) * (kF S 12))).toNatClampNeg ≤ 8000000 ∧ uc + 1 ≤ mc ∧ us + (((2 : Int32) * (kF S 12))).toNatClampNeg ≤ ms ∧ (∀ q1 : Nat, q1 ∉ kLP S → (fun (S1 : CS) => (pk S1 (kA S1 11) 2 ∧ pk S1 q1 2 ∧ (∀ i : Nat, i < ((kF S1 12)).toNatClampNeg → ∀ y : Nat, kO S1 (kA S1 11) (((0 : Int32)).toNatClampNeg + i) = some y → pk S1 y 3) ∧ ¬ (0 : Int32) < 0 ∧ ¬ (0 : Int32) < 0 ∧ ¬ (kF S1 12) < 0 ∧ ((0 : Int32)).toNatClampNeg + ((kF S1 12)).toNatClampNeg ≤ kN S1 (kA S1 11) ∧ ((0 : Int32)).toNatClampNeg + ((kF S1 12)).toNatClampNeg ≤ kN S1 q1 ∧ (fun (S2 : CS) => (fun (S3 : CS) => C_keep_w41 mc ms post a1 (uc + 1) (us + (((2 : Int32) * (kF S 12))).toNatClampNeg) S3) (tA S2 11 q1)) (tOc S1 (kA S1 11) q1 ((0 : Int32)).toNatClampNeg ((0 : Int32)).toNatClampNeg ((kF S1 12)).toNatClampNeg))) (nO S q1 (((2 : Int32) * (kF S 12))).toNatClampNeg))))))
set_option maxHeartbeats 4000000 in
set_option maxRecDepth 100000 in
theorem C_keep_a0 {p : Program} {l : Launch} {e : Env} {s : State} {m : MethodId} {args : Array Value} {below : List Frame} {meth : Method} {c : Code} {D : va_G} {dA : Nat → ClassId} {o : Nat → Nat} {A : Nat → Prop} {mc ms : Nat} {post : CS → Prop} (C : cC RX0 p m c cX0_keep 3 s args meth (Option.none : Option Jvm.ClassFile.FieldType) A) {a1 : Nat} {uc : Nat} {us : Nat} {S : CS} (h : C_keep_w0 mc ms post a1 uc us S) (hu : uc ≤ mc ∧ us ≤ ms) {H : Heap} {locs : List Loc} {ls : Array Slot} (hl : lv_has ls 3 [(0, .ref (o 0)), (1, .ref a1)]) (w : cw D dA o A s S H locs) : W p l e (rC_keep mc ms) s m args below meth c H locs uc us (cQv below args s D dA o A (rC_keep mc ms) post) (F0 m 0 ls []) := by
  unfold C_keep_w0 at h
  obtain ⟨⟨hx, hb, hml, hown, hts⟩, hr, hlk, hA⟩ := id C
  refine lv_aload_n hx hb dX0_keep_0 rfl (lv_at hl 0 rfl) ?_
  refine cr_get C w 0 rfl rfl in_X0 12 (by decide) q176 rfl rfl dX0_keep_1 ?_
  refine lv_aload_n hx hb dX0_keep_4 rfl (lv_at hl 0 rfl) ?_
  refine cr_get C w 0 rfl rfl in_X0 11 (by decide) q175 rfl rfl dX0_keep_5 ?_
  obtain ⟨hpk, h⟩ := h
  refine cr_olen C w hpk dX0_keep_8 ?_
  obtain ⟨h1, h2⟩ := h
  refine lv_icmp_ne (tgt := 41) hx hb dX0_keep_9 (by decide) (fun c1 => ?_) (fun c1 => ?_)
  · have h := h1 c1
    exact C_keep_a41 C h hu (lv_sub hl [0, 1] rfl) w
  · have h := h2 c1
    refine lv_iconst (v := 2) hx hb dX0_keep_12 (by decide) ?_
    refine lv_aload_n hx hb dX0_keep_13 rfl (lv_at hl 0 rfl) ?_
    refine cr_get C w 0 rfl rfl in_X0 12 (by decide) q176 rfl rfl dX0_keep_14 ?_
    refine lv_imul hx hb dX0_keep_17 ?_
    obtain ⟨hn, hle, hc1, hs1, h⟩ := h
    refine cr_newO C w q161 hn hle hc1 hs1 dX0_keep_18 (fun q1 H hq w => ?_)
    have h := h _ hq
    have hu : uc + 1 ≤ mc ∧ us + (((2 : Int32) * (kF S 12))).toNatClampNeg ≤ ms := ⟨hc1, hs1⟩
    refine lv_astore_n (lv' := [(2, .ref _), (0, .ref _), (1, .ref _)]) hx hb dX0_keep_21 rfl hl (by decide) rfl (fun ls hl => ?_)
    refine lv_aload_n hx hb dX0_keep_22 rfl (lv_at hl 1 rfl) ?_
    refine cr_get C w 0 rfl rfl in_X0 11 (by decide) q175 rfl rfl dX0_keep_23 ?_
    refine lv_iconst (v := 0) hx hb dX0_keep_26 (by decide) ?_
    refine lv_aload_n hx hb dX0_keep_27 rfl (lv_at hl 0 rfl) ?_
    refine lv_iconst (v := 0) hx hb dX0_keep_28 (by decide) ?_
    refine lv_aload_n hx hb dX0_keep_29 rfl (lv_at hl 1 rfl) ?_
    refine cr_get C w 0 rfl rfl in_X0 12 (by decide) q176 rfl rfl dX0_keep_30 ?_
    obtain ⟨hpa, hpb, hel, h1, h2, h3, h4, h5, h⟩ := h
    refine cr_acopy (rest := []) C w hpa hpb hel h1 h2 h3 h4 h5 hl.1 q442 (Nat.le_of_ble_eq_true rfl) (Nat.le_of_ble_eq_true rfl) dX0_keep_33 (fun H locs w => ?_)
    refine lv_aload_n hx hb dX0_keep_36 rfl (lv_at hl 1 rfl) ?_
    refine lv_aload_n hx hb dX0_keep_37 rfl (lv_at hl 0 rfl) ?_
    refine cr_put (ty := .array (.array .long)) C w 11 (by decide) q175 rfl rfl (by decide +kernel) rfl rfl CWa_11 dX0_keep_38 (fun H locs w => ?_)
    exact C_keep_a41 C h hu (lv_sub hl [1, 2] rfl) w
def C_keep_VC (mc ms : Nat) (a1 : Nat) (S : CS) (post : CS → Prop) : Prop := C_keep_w0 mc ms post a1 0 0 S
theorem C_keep_ok {mc ms : Nat} {a1 : Nat} {S : CS} {post : CS → Prop} (h : C_keep_VC mc ms a1 S post) : C_keep mc ms a1 S post := by
  intro l D dA o sz
  refine cr_start (fun A => va_Qv post (cB D dA o A) A) rfl (Nat.le_of_ble_eq_true rfl) (by decide) ?_
  intro p e s m args below meth c ls A C w hl
  have hl : lv_has ls 3 [(0, .ref (o 0)), (1, .ref a1)] := hl
  exact C_keep_a0 C h ⟨Nat.zero_le _, Nat.zero_le _⟩ (lv_sub hl [0, 1] rfl) w
