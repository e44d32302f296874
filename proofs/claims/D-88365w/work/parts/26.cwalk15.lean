/-! ThirdSheets.arcsOf(I)I -/
def C_arcsOf_w112 (post : Int32 → CS → Prop) (T4 : Int32 → Int32 → Int32 → CS → Prop) (T15 : Int32 → Int32 → Int32 → Int32 → CS → Prop) (T24 : Int32 → Int32 → Int32 → Int32 → Int32 → CS → Prop) (T65 : Int32 → Int32 → Int32 → Int32 → Int32 → Int32 → Int32 → CS → Prop) (x1 : Int32) (x2 : Int32) (x3 : Int32) (x4 : Int32) (S : CS) : Prop :=
  T15 x1 x2 x3 (x4 + (1 : Int32)) S
set_option maxHeartbeats 4000000 in
set_option maxRecDepth 100000 in
theorem C_arcsOf_a112 {p : Program} {l : Launch} {e : Env} {s : State} {m : MethodId} {args : Array Value} {below : List Frame} {meth : Method} {c : Code} {D : va_G} {dA : Nat → ClassId} {o : Nat → Nat} {A : Nat → Prop} {post : Int32 → CS → Prop} {T4 : Int32 → Int32 → Int32 → CS → Prop} {T15 : Int32 → Int32 → Int32 → Int32 → CS → Prop} {T24 : Int32 → Int32 → Int32 → Int32 → Int32 → CS → Prop} {T65 : Int32 → Int32 → Int32 → Int32 → Int32 → Int32 → Int32 → CS → Prop} (C : cC RX0 p m c cX0_arcsOf 8 s args meth (Option.some Jvm.ClassFile.FieldType.int) A) (hT4 : ∀ (x1 : Int32) (x2 : Int32) (x3 : Int32) (S : CS), T4 x1 x2 x3 S → ∀ (H : Heap) (locs : List Loc) (ls : Array Slot), lv_has ls 8 [(0, .ref (o 0)), (1, .int x1), (2, .int x2), (3, .int x3)] → cw D dA o A s S H locs → W p l e (rC_arcsOf) s m args below meth c H locs 0 0 (cQi below args s D dA o A (rC_arcsOf) post) (F0 m 4 ls [])) (hT15 : ∀ (x1 : Int32) (x2 : Int32) (x3 : Int32) (x4 : Int32) (S : CS), T15 x1 x2 x3 x4 S → ∀ (H : Heap) (locs : List Loc) (ls : Array Slot), lv_has ls 8 [(0, .ref (o 0)), (1, .int x1), (2, .int x2), (3, .int x3), (4, .int x4)] → cw D dA o A s S H locs → W p l e (rC_arcsOf) s m args below meth c H locs 0 0 (cQi below args s D dA o A (rC_arcsOf) post) (F0 m 15 ls [])) (hT24 : ∀ (x1 : Int32) (x2 : Int32) (x3 : Int32) (x4 : Int32) (x5 : Int32) (S : CS), T24 x1 x2 x3 x4 x5 S → ∀ (H : Heap) (locs : List Loc) (ls : Array Slot), lv_has ls 8 [(0, .ref (o 0)), (1, .int x1), (2, .int x2), (3, .int x3), (4, .int x4), (5, .int x5)] → cw D dA o A s S H locs → W p l e (rC_arcsOf) s m args below meth c H locs 0 0 (cQi below args s D dA o A (rC_arcsOf) post) (F0 m 24 ls [])) (hT65 : ∀ (x1 : Int32) (x2 : Int32) (x3 : Int32) (x4 : Int32) (x5 : Int32) (x6 : Int32) (x7 : Int32) (S : CS), T65 x1 x2 x3 x4 x5 x6 x7 S → ∀ (H : Heap) (locs : List Loc) (ls : Array Slot), lv_has ls 8 [(0, .ref (o 0)), (1, .int x1), (2, .int x2), (3, .int x3), (4, .int x4), (5, .int x5), (6, .int x6), (7, .int x7)] → cw D dA o A s S H locs → W p l e (rC_arcsOf) s m args below meth c H locs 0 0 (cQi below args s D dA o A (rC_arcsOf) post) (F0 m 65 ls [])) {x1 : Int32} {x2 : Int32} {x3 : Int32} {x4 : Int32} {S : CS} (h : C_arcsOf_w112 post T4 T15 T24 T65 x1 x2 x3 x4 S) {H : Heap} {locs : List Loc} {ls : Array Slot} (hl : lv_has ls 8 [(0, .ref (o 0)), (1, .int x1), (2, .int x2), (3, .int x3), (4, .int x4)]) (w : cw D dA o A s S H locs) : W p l e (rC_arcsOf) s m args below meth c H locs 0 0 (cQi below args s D dA o A (rC_arcsOf) post) (F0 m 112 ls []) := by
  unfold C_arcsOf_w112 at h
  obtain ⟨⟨hx, hb, hml, hown, hts⟩, hr, hlk, hA⟩ := id C
  refine lv_iinc (v := _ + (1 : Int32)) (lv' := [(4, .int _), (0, .ref _), (1, .int _), (2, .int _), (3, .int _)]) hx hb dX0_arcsOf_112 hl (k := 4) rfl rfl (by decide) rfl (fun ls hl => ?_)
  refine lv_goto (tgt := 15) hx hb dX0_arcsOf_115 (by decide) ?_
  exact hT15 _ _ _ _ _ h _ _ _ (lv_sub hl [1, 2, 3, 4, 0] rfl) w
def C_arcsOf_w98 (post : Int32 → CS → Prop) (T4 : Int32 → Int32 → Int32 → CS → Prop) (T15 : Int32 → Int32 → Int32 → Int32 → CS → Prop) (T24 : Int32 → Int32 → Int32 → Int32 → Int32 → CS → Prop) (T65 : Int32 → Int32 → Int32 → Int32 → Int32 → Int32 → Int32 → CS → Prop) (v0 : Int32) (v1 : Int32) (x1 : Int32) (x3 : Int32) (x4 : Int32) (x5 : Int32) (x6 : Int32) (x7 : Int32) (S : CS) : Prop :=
  T65 x1 (v1 + v0) x3 x4 x5 x6 (x7 + (1 : Int32)) S
set_option maxHeartbeats 4000000 in
set_option maxRecDepth 100000 in
theorem C_arcsOf_a98 {p : Program} {l : Launch} {e : Env} {s : State} {m : MethodId} {args : Array Value} {below : List Frame} {meth : Method} {c : Code} {D : va_G} {dA : Nat → ClassId} {o : Nat → Nat} {A : Nat → Prop} {post : Int32 → CS → Prop} {T4 : Int32 → Int32 → Int32 → CS → Prop} {T15 : Int32 → Int32 → Int32 → Int32 → CS → Prop} {T24 : Int32 → Int32 → Int32 → Int32 → Int32 → CS → Prop} {T65 : Int32 → Int32 → Int32 → Int32 → Int32 → Int32 → Int32 → CS → Prop} (C : cC RX0 p m c cX0_arcsOf 8 s args meth (Option.some Jvm.ClassFile.FieldType.int) A) (hT4 : ∀ (x1 : Int32) (x2 : Int32) (x3 : Int32) (S : CS), T4 x1 x2 x3 S → ∀ (H : Heap) (locs : List Loc) (ls : Array Slot), lv_has ls 8 [(0, .ref (o 0)), (1, .int x1), (2, .int x2), (3, .int x3)] → cw D dA o A s S H locs → W p l e (rC_arcsOf) s m args below meth c H locs 0 0 (cQi below args s D dA o A (rC_arcsOf) post) (F0 m 4 ls [])) (hT15 : ∀ (x1 : Int32) (x2 : Int32) (x3 : Int32) (x4 : Int32) (S : CS), T15 x1 x2 x3 x4 S → ∀ (H : Heap) (locs : List Loc) (ls : Array Slot), lv_has ls 8 [(0, .ref (o 0)), (1, .int x1), (2, .int x2), (3, .int x3), (4, .int x4)] → cw D dA o A s S H locs → W p l e (rC_arcsOf) s m args below meth c H locs 0 0 (cQi below args s D dA o A (rC_arcsOf) post) (F0 m 15 ls [])) (hT24 : ∀ (x1 : Int32) (x2 : Int32) (x3 : Int32) (x4 : Int32) (x5 : Int32) (S : CS), T24 x1 x2 x3 x4 x5 S → ∀ (H : Heap) (locs : List Loc) (ls : Array Slot), lv_has ls 8 [(0, .ref (o 0)), (1, .int x1), (2, .int x2), (3, .int x3), (4, .int x4), (5, .int x5)] → cw D dA o A s S H locs → W p l e (rC_arcsOf) s m args below meth c H locs 0 0 (cQi below args s D dA o A (rC_arcsOf) post) (F0 m 24 ls [])) (hT65 : ∀ (x1 : Int32) (x2 : Int32) (x3 : Int32) (x4 : Int32) (x5 : Int32) (x6 : Int32) (x7 : Int32) (S : CS), T65 x1 x2 x3 x4 x5 x6 x7 S → ∀ (H : Heap) (locs : List Loc) (ls : Array Slot), lv_has ls 8 [(0, .ref (o 0)), (1, .int x1), (2, .int x2), (3, .int x3), (4, .int x4), (5, .int x5), (6, .int x6), (7, .int x7)] → cw D dA o A s S H locs → W p l e (rC_arcsOf) s m args below meth c H locs 0 0 (cQi below args s D dA o A (rC_arcsOf) post) (F0 m 65 ls [])) {v0 : Int32} {v1 : Int32} {x1 : Int32} {x3 : Int32} {x4 : Int32} {x5 : Int32} {x6 : Int32} {x7 : Int32} {S : CS} (h : C_arcsOf_w98 post T4 T15 T24 T65 v0 v1 x1 x3 x4 x5 x6 x7 S) {H : Heap} {locs : List Loc} {ls : Array Slot} (hl : lv_has ls 8 [(0, .ref (o 0)), (1, .int x1), (3, .int x3), (4, .int x4), (5, .int x5), (6, .int x6), (7, .int x7)]) (w : cw D dA o A s S H locs) : W p l e (rC_arcsOf) s m args below meth c H locs 0 0 (cQi below args s D dA o A (rC_arcsOf) post) (F0 m 98 ls [.int v0, .int v1]) := by
  unfold C_arcsOf_w98 at h
  obtain ⟨⟨hx, hb, hml, hown, hts⟩, hr, hlk, hA⟩ := id C
  refine lv_iadd hx hb dX0_arcsOf_98 ?_
  refine lv_istore_n (lv' := [(2, .int _), (0, .ref _), (1, .int _), (3, .int _), (4, .int _), (5, .int _), (6, .int _), (7, .int _)]) hx hb dX0_arcsOf_99 rfl hl (by decide) rfl (fun ls hl => ?_)
  refine lv_iinc (v := _ + (1 : Int32)) (lv' := [(7, .int _), (2, .int _), (0, .ref _), (1, .int _), (3, .int _), (4, .int _), (5, .int _), (6, .int _)]) hx hb dX0_arcsOf_100 hl (k := 7) rfl rfl (by decide) rfl (fun ls hl => ?_)
  refine lv_goto (tgt := 65) hx hb dX0_arcsOf_103 (by decide) ?_
  exact hT65 _ _ _ _ _ _ _ _ h _ _ _ (lv_sub hl [2, 3, 1, 4, 5, 6, 7, 0] rfl) w
def C_arcsOf_w65 (post : Int32 → CS → Prop) (T4 : Int32 → Int32 → Int32 → CS → Prop) (T15 : Int32 → Int32 → Int32 → Int32 → CS → Prop) (T24 : Int32 → Int32 → Int32 → Int32 → Int32 → CS → Prop) (T65 : Int32 → Int32 → Int32 → Int32 → Int32 → Int32 → Int32 → CS → Prop) (x1 : Int32) (x2 : Int32) (x3 : Int32) (x4 : Int32) (x5 : Int32) (x6 : Int32) (x7 : Int32) (S : CS) : Prop :=
  ((x6 ≤ x7 → T24 x1 x2 x3 x4 (x5 + (1 : Int32)) S) ∧ (¬ x6 ≤ x7 → C_cutOf x3 x4 x5 x7 S (fun (r1 : Int32) (S1 : CS) => (vp_in r1 400 ∧ ((¬ (kI S1 15 (r1).toNatClampNeg) = x1 → C_arcsOf_w98 post T4 T15 T24 T65 (0 : Int32) x2 x1 x3 x4 x5 x6 x7 S1) ∧ ((kI S1 15 (r1).toNatClampNeg) = x1 → C_arcsOf_w98 post T4 T15 T24 T65 (1 : Int32) x2 x1 x3 x4 x5 x6 x7 S1))))))
set_option maxHeartbeats 4000000 in
set_option maxRecDepth 100000 in
theorem C_arcsOf_a65 {p : Program} {l : Launch} {e : Env} {s : State} {m : MethodId} {args : Array Value} {below : List Frame} {meth : Method} {c : Code} {D : va_G} {dA : Nat → ClassId} {o : Nat → Nat} {A : Nat → Prop} {post : Int32 → CS → Prop} {T4 : Int32 → Int32 → Int32 → CS → Prop} {T15 : Int32 → Int32 → Int32 → Int32 → CS → Prop} {T24 : Int32 → Int32 → Int32 → Int32 → Int32 → CS → Prop} {T65 : Int32 → Int32 → Int32 → Int32 → Int32 → Int32 → Int32 → CS → Prop} (C : cC RX0 p m c cX0_arcsOf 8 s args meth (Option.some Jvm.ClassFile.FieldType.int) A) (hT4 : ∀ (x1 : Int32) (x2 : Int32) (x3 : Int32) (S : CS), T4 x1 x2 x3 S → ∀ (H : Heap) (locs : List Loc) (ls : Array Slot), lv_has ls 8 [(0, .ref (o 0)), (1, .int x1), (2, .int x2), (3, .int x3)] → cw D dA o A s S H locs → W p l e (rC_arcsOf) s m args below meth c H locs 0 0 (cQi below args s D dA o A (rC_arcsOf) post) (F0 m 4 ls [])) (hT15 : ∀ (x1 : Int32) (x2 : Int32) (x3 : Int32) (x4 : Int32) (S : CS), T15 x1 x2 x3 x4 S → ∀ (H : Heap) (locs : List Loc) (ls : Array Slot), lv_has ls 8 [(0, .ref (o 0)), (1, .int x1), (2, .int x2), (3, .int x3), (4, .int x4)] → cw D dA o A s S H locs → W p l e (rC_arcsOf) s m args below meth c H locs 0 0 (cQi below args s D dA o A (rC_arcsOf) post) (F0 m 15 ls [])) (hT24 : ∀ (x1 : Int32) (x2 : Int32) (x3 : Int32) (x4 : Int32) (x5 : Int32) (S : CS), T24 x1 x2 x3 x4 x5 S → ∀ (H : Heap) (locs : List Loc) (ls : Array Slot), lv_has ls 8 [(0, .ref (o 0)), (1, .int x1), (2, .int x2), (3, .int x3), (4, .int x4), (5, .int x5)] → cw D dA o A s S H locs → W p l e (rC_arcsOf) s m args below meth c H locs 0 0 (cQi below args s D dA o A (rC_arcsOf) post) (F0 m 24 ls [])) (hT65 : ∀ (x1 : Int32) (x2 : Int32) (x3 : Int32) (x4 : Int32) (x5 : Int32) (x6 : Int32) (x7 : Int32) (S : CS), T65 x1 x2 x3 x4 x5 x6 x7 S → ∀ (H : Heap) (locs : List Loc) (ls : Array Slot), lv_has ls 8 [(0, .ref (o 0)), (1, .int x1), (2, .int x2), (3, .int x3), (4, .int x4), (5, .int x5), (6, .int x6), (7, .int x7)] → cw D dA o A s S H locs → W p l e (rC_arcsOf) s m args below meth c H locs 0 0 (cQi below args s D dA o A (rC_arcsOf) post) (F0 m 65 ls [])) {x1 : Int32} {x2 : Int32} {x3 : Int32} {x4 : Int32} {x5 : Int32} {x6 : Int32} {x7 : Int32} {S : CS} (h : C_arcsOf_w65 post T4 T15 T24 T65 x1 x2 x3 x4 x5 x6 x7 S) {H : Heap} {locs : List Loc} {ls : Array Slot} (hl : lv_has ls 8 [(0, .ref (o 0)), (1, .int x1), (2, .int x2), (3, .int x3), (4, .int x4), (5, .int x5), (6, .int x6), (7, .int x7)]) (w : cw D dA o A s S H locs) : W p l e (rC_arcsOf) s m args below meth c H locs 0 0 (cQi below args s D dA o A (rC_arcsOf) post) (F0 m 65 ls []) := by
  unfold C_arcsOf_w65 at h
  obtain ⟨⟨hx, hb, hml, hown, hts⟩, hr, hlk, hA⟩ := id C
  refine lv_iload hx hb dX0_arcsOf_65 (lv_at hl 7 rfl) ?_
  refine lv_iload hx hb dX0_arcsOf_67 (lv_at hl 6 rfl) ?_
  obtain ⟨h1, h2⟩ := h
  refine lv_icmp_ge (tgt := 106) hx hb dX0_arcsOf_69 (by decide) (fun c1 => ?_) (fun c1 => ?_)
  · have h := h1 c1
    refine lv_iinc (v := _ + (1 : Int32)) (lv' := [(5, .int _), (0, .ref _), (1, .int _), (2, .int _), (3, .int _), (4, .int _), (6, .int _), (7, .int _)]) hx hb dX0_arcsOf_106 hl (k := 5) rfl rfl (by decide) rfl (fun ls hl => ?_)
    refine lv_goto (tgt := 24) hx hb dX0_arcsOf_109 (by decide) ?_
    exact hT24 _ _ _ _ _ _ h _ _ _ (lv_sub hl [1, 2, 3, 4, 5, 0] rfl) w
  · have h := h2 c1
    refine lv_iload_n hx hb dX0_arcsOf_72 rfl (lv_at hl 2 rfl) ?_
    refine lv_aload_n hx hb dX0_arcsOf_73 rfl (lv_at hl 0 rfl) ?_
    refine cr_get C w 0 rfl rfl in_X0 15 (by decide) q179 rfl rfl dX0_arcsOf_74 ?_
    refine lv_aload_n hx hb dX0_arcsOf_77 rfl (lv_at hl 0 rfl) ?_
    refine lv_iload_n hx hb dX0_arcsOf_78 rfl (lv_at hl 3 rfl) ?_
    refine lv_iload hx hb dX0_arcsOf_79 (lv_at hl 4 rfl) ?_
    refine lv_iload hx hb dX0_arcsOf_81 (lv_at hl 5 rfl) ?_
    refine lv_iload hx hb dX0_arcsOf_83 (lv_at hl 7 rfl) ?_
    refine cr_callVI (rest := [.ref _, .int _]) (b := (fun o => o 0)) C w h (recv0 w) (cwV 4 hts (lw_V q547 q549 qs31 q82 q550) rfl rfl rfl C_cutOf_d ⟨Nat.le_of_ble_eq_true rfl, Nat.le_of_ble_eq_true rfl⟩) rfl hl.1 rfl (Nat.le_of_ble_eq_true rfl) ⟨Nat.le_of_ble_eq_true rfl, Nat.le_of_ble_eq_true rfl⟩ dX0_arcsOf_85 (fun r1 S1 H locs h w => ?_)
    obtain ⟨hi, h⟩ := h
    refine cr_iald C w 10 rfl hi dX0_arcsOf_88 ?_
    refine lv_iload_n hx hb dX0_arcsOf_89 rfl (lv_at hl 1 rfl) ?_
    obtain ⟨h1, h2⟩ := h
    refine lv_icmp_ne (tgt := 97) hx hb dX0_arcsOf_90 (by decide) (fun c1 => ?_) (fun c1 => ?_)
    · have h := h1 c1
      refine lv_iconst (v := 0) hx hb dX0_arcsOf_97 (by decide) ?_
      exact C_arcsOf_a98 C hT4 hT15 hT24 hT65 h (lv_sub hl [0, 1, 3, 4, 5, 6, 7] rfl) w
    · have h := h2 c1
      refine lv_iconst (v := 1) hx hb dX0_arcsOf_93 (by decide) ?_
      refine lv_goto (tgt := 98) hx hb dX0_arcsOf_94 (by decide) ?_
      exact C_arcsOf_a98 C hT4 hT15 hT24 hT65 h (lv_sub hl [0, 1, 3, 4, 5, 6, 7] rfl) w
def C_arcsOf_w60 (post : Int32 → CS → Prop) (T4 : Int32 → Int32 → Int32 → CS → Prop) (T15 : Int32 → Int32 → Int32 → Int32 → CS → Prop) (T24 : Int32 → Int32 → Int32 → Int32 → Int32 → CS → Prop) (T65 : Int32 → Int32 → Int32 → Int32 → Int32 → Int32 → Int32 → CS → Prop) (v0 : Int32) (x1 : Int32) (x2 : Int32) (x3 : Int32) (x4 : Int32) (x5 : Int32) (S : CS) : Prop :=
  T65 x1 x2 x3 x4 x5 v0 (0 : Int32) S
set_option maxHeartbeats 4000000 in
set_option maxRecDepth 100000 in
theorem C_arcsOf_a60 {p : Program} {l : Launch} {e : Env} {s : State} {m : MethodId} {args : Array Value} {below : List Frame} {meth : Method} {c : Code} {D : va_G} {dA : Nat → ClassId} {o : Nat → Nat} {A : Nat → Prop} {post : Int32 → CS → Prop} {T4 : Int32 → Int32 → Int32 → CS → Prop} {T15 : Int32 → Int32 → Int32 → Int32 → CS → Prop} {T24 : Int32 → Int32 → Int32 → Int32 → Int32 → CS → Prop} {T65 : Int32 → Int32 → Int32 → Int32 → Int32 → Int32 → Int32 → CS → Prop} (C : cC RX0 p m c cX0_arcsOf 8 s args meth (Option.some Jvm.ClassFile.FieldType.int) A) (hT4 : ∀ (x1 : Int32) (x2 : Int32) (x3 : Int32) (S : CS), T4 x1 x2 x3 S → ∀ (H : Heap) (locs : List Loc) (ls : Array Slot), lv_has ls 8 [(0, .ref (o 0)), (1, .int x1), (2, .int x2), (3, .int x3)] → cw D dA o A s S H locs → W p l e (rC_arcsOf) s m args below meth c H locs 0 0 (cQi below args s D dA o A (rC_arcsOf) post) (F0 m 4 ls [])) (hT15 : ∀ (x1 : Int32) (x2 : Int32) (x3 : Int32) (x4 : Int32) (S : CS), T15 x1 x2 x3 x4 S → ∀ (H : Heap) (locs : List Loc) (ls : Array Slot), lv_has ls 8 [(0, .ref (o 0)), (1, .int x1), (2, .int x2), (3, .int x3), (4, .int x4)] → cw D dA o A s S H locs → W p l e (rC_arcsOf) s m args below meth c H locs 0 0 (cQi below args s D dA o A (rC_arcsOf) post) (F0 m 15 ls [])) (hT24 : ∀ (x1 : Int32) (x2 : Int32) (x3 : Int32) (x4 : Int32) (x5 : Int32) (S : CS), T24 x1 x2 x3 x4 x5 S → ∀ (H : Heap) (locs : List Loc) (ls : Array Slot), lv_has ls 8 [(0, .ref (o 0)), (1, .int x1), (2, .int x2), (3, .int x3), (4, .int x4), (5, .int x5)] → cw D dA o A s S H locs → W p l e (rC_arcsOf) s m args below meth c H locs 0 0 (cQi below args s D dA o A (rC_arcsOf) post) (F0 m 24 ls [])) (hT65 : ∀ (x1 : Int32) (x2 : Int32) (x3 : Int32) (x4 : Int32) (x5 : Int32) (x6 : Int32) (x7 : Int32) (S : CS), T65 x1 x2 x3 x4 x5 x6 x7 S → ∀ (H : Heap) (locs : List Loc) (ls : Array Slot), lv_has ls 8 [(0, .ref (o 0)), (1, .int x1), (2, .int x2), (3, .int x3), (4, .int x4), (5, .int x5), (6, .int x6), (7, .int x7)] → cw D dA o A s S H locs → W p l e (rC_arcsOf) s m args below meth c H locs 0 0 (cQi below args s D dA o A (rC_arcsOf) post) (F0 m 65 ls [])) {v0 : Int32} {x1 : Int32} {x2 : Int32} {x3 : Int32} {x4 : Int32} {x5 : Int32} {S : CS} (h : C_arcsOf_w60 post T4 T15 T24 T65 v0 x1 x2 x3 x4 x5 S) {H : Heap} {locs : List Loc} {ls : Array Slot} (hl : lv_has ls 8 [(0, .ref (o 0)), (1, .int x1), (2, .int x2), (3, .int x3), (4, .int x4), (5, .int x5)]) (w : cw D dA o A s S H locs) : W p l e (rC_arcsOf) s m args below meth c H locs 0 0 (cQi below args s D dA o A (rC_arcsOf) post) (F0 m 60 ls [.int v0]) := by
  unfold C_arcsOf_w60 at h
  obtain ⟨⟨hx, hb, hml, hown, hts⟩, hr, hlk, hA⟩ := id C
  refine lv_istore (lv' := [(6, .int _), (0, .ref _), (1, .int _), (2, .int _), (3, .int _), (4, .int _), (5, .int _)]) hx hb dX0_arcsOf_60 hl (by decide) rfl (fun ls hl => ?_)
  refine lv_iconst (v := 0) hx hb dX0_arcsOf_62 (by decide) ?_
  refine lv_istore (lv' := [(7, .int _), (6, .int _), (0, .ref _), (1, .int _), (2, .int _), (3, .int _), (4, .int _), (5, .int _)]) hx hb dX0_arcsOf_63 hl (by decide) rfl (fun ls hl => ?_)
  exact hT65 _ _ _ _ _ _ _ _ h _ _ _ (lv_sub hl [2, 3, 4, 5, 6, 7, 1, 0] rfl) w
def C_arcsOf_w24 (post : Int32 → CS → Prop) (T4 : Int32 → Int32 → Int32 → CS → Prop) (T15 : Int32 → Int32 → Int32 → Int32 → CS → Prop) (T24 : Int32 → Int32 → Int32 → Int32 → Int32 → CS → Prop) (T65 : Int32 → Int32 → Int32 → Int32 → Int32 → Int32 → Int32 → CS → Prop) (x1 : Int32) (x2 : Int32) (x3 : Int32) (x4 : Int32) (x5 : Int32) (S : CS) : Prop :=
  (((4 : Int32) ≤ x5 → C_arcsOf_w112 post T4 T15 T24 T65 x1 x2 x3 x4 S) ∧ (¬ (4 : Int32) ≤ x5 → C_isCounted x3 x4 S (fun (r1 : Int32) (S1 : CS) => ((r1 = 0 → C_arcsOf_w112 post T4 T15 T24 T65 x1 x2 x3 x4 S1) ∧ (¬ r1 = 0 → ((¬ x5 = x4 → C_arcs x3 x4 x5 S1 (fun (r2 : Int32) (S2 : CS) => C_arcsOf_w60 post T4 T15 T24 T65 r2 x1 x2 x3 x4 x5 S2)) ∧ (x5 = x4 → C_arcsOf_w60 post T4 T15 T24 T65 (0 : Int32) x1 x2 x3 x4 x5 S1)))))))
set_option maxHeartbeats 4000000 in
set_option maxRecDepth 100000 in
theorem C_arcsOf_a24 {p : Program} {l : Launch} {e : Env} {s : State} {m : MethodId} {args : Array Value} {below : List Frame} {meth : Method} {c : Code} {D : va_G} {dA : Nat → ClassId} {o : Nat → Nat} {A : Nat → Prop} {post : Int32 → CS → Prop} {T4 : Int32 → Int32 → Int32 → CS → Prop} {T15 : Int32 → Int32 → Int32 → Int32 → CS → Prop} {T24 : Int32 → Int32 → Int32 → Int32 → Int32 → CS → Prop} {T65 : Int32 → Int32 → Int32 → Int32 → Int32 → Int32 → Int32 → CS → Prop} (C : cC RX0 p m c cX0_arcsOf 8 s args meth (Option.some Jvm.ClassFile.FieldType.int) A) (hT4 : ∀ (x1 : Int32) (x2 : Int32) (x3 : Int32) (S : CS), T4 x1 x2 x3 S → ∀ (H : Heap) (locs : List Loc) (ls : Array Slot), lv_has ls 8 [(0, .ref (o 0)), (1, .int x1), (2, .int x2), (3, .int x3)] → cw D dA o A s S H locs → W p l e (rC_arcsOf) s m args below meth c H locs 0 0 (cQi below args s D dA o A (rC_arcsOf) post) (F0 m 4 ls [])) (hT15 : ∀ (x1 : Int32) (x2 : Int32) (x3 : Int32) (x4 : Int32) (S : CS), T15 x1 x2 x3 x4 S → ∀ (H : Heap) (locs : List Loc) (ls : Array Slot), lv_has ls 8 [(0, .ref (o 0)), (1, .int x1), (2, .int x2), (3, .int x3), (4, .int x4)] → cw D dA o A s S H locs → W p l e (rC_arcsOf) s m args below meth c H locs 0 0 (cQi below args s D dA o A (rC_arcsOf) post) (F0 m 15 ls [])) (hT24 : ∀ (x1 : Int32) (x2 : Int32) (x3 : Int32) (x4 : Int32) (x5 : Int32) (S : CS), T24 x1 x2 x3 x4 x5 S → ∀ (H : Heap) (locs : List Loc) (ls : Array Slot), lv_has ls 8 [(0, .ref (o 0)), (1, .int x1), (2, .int x2), (3, .int x3), (4, .int x4), (5, .int x5)] → cw D dA o A s S H locs → W p l e (rC_arcsOf) s m args below meth c H locs 0 0 (cQi below args s D dA o A (rC_arcsOf) post) (F0 m 24 ls [])) (hT65 : ∀ (x1 : Int32) (x2 : Int32) (x3 : Int32) (x4 : Int32) (x5 : Int32) (x6 : Int32) (x7 : Int32) (S : CS), T65 x1 x2 x3 x4 x5 x6 x7 S → ∀ (H : Heap) (locs : List Loc) (ls : Array Slot), lv_has ls 8 [(0, .ref (o 0)), (1, .int x1), (2, .int x2), (3, .int x3), (4, .int x4), (5, .int x5), (6, .int x6), (7, .int x7)] → cw D dA o A s S H locs → W p l e (rC_arcsOf) s m args below meth c H locs 0 0 (cQi below args s D dA o A (rC_arcsOf) post) (F0 m 65 ls [])) {x1 : Int32} {x2 : Int32} {x3 : Int32} {x4 : Int32} {x5 : Int32} {S : CS} (h : C_arcsOf_w24 post T4 T15 T24 T65 x1 x2 x3 x4 x5 S) {H : Heap} {locs : List Loc} {ls : Array Slot} (hl : lv_has ls 8 [(0, .ref (o 0)), (1, .int x1), (2, .int x2), (3, .int x3), (4, .int x4), (5, .int x5)]) (w : cw D dA o A s S H locs) : W p l e (rC_arcsOf) s m args below meth c H locs 0 0 (cQi below args s D dA o A (rC_arcsOf) post) (F0 m 24 ls []) := by
  unfold C_arcsOf_w24 at h
  obtain ⟨⟨hx, hb, hml, hown, hts⟩, hr, hlk, hA⟩ := id C
  refine lv_iload hx hb dX0_arcsOf_24 (lv_at hl 5 rfl) ?_
  refine lv_iconst (v := 4) hx hb dX0_arcsOf_26 (by decide) ?_
  obtain ⟨h1, h2⟩ := h
  refine lv_icmp_ge (tgt := 112) hx hb dX0_arcsOf_27 (by decide) (fun c1 => ?_) (fun c1 => ?_)
  · have h := h1 c1
    exact C_arcsOf_a112 C hT4 hT15 hT24 hT65 h (lv_sub hl [0, 1, 2, 3, 4] rfl) w
  · have h := h2 c1
    refine lv_aload_n hx hb dX0_arcsOf_30 rfl (lv_at hl 0 rfl) ?_
    refine lv_iload_n hx hb dX0_arcsOf_31 rfl (lv_at hl 3 rfl) ?_
    refine lv_iload hx hb dX0_arcsOf_32 (lv_at hl 4 rfl) ?_
    refine cr_callVI (rest := []) (b := (fun o => o 0)) C w h (recv0 w) (cwV 2 hts (lw_V q519 q521 qs25 q82 q522) rfl rfl rfl C_isCounted_d ⟨Nat.le_of_ble_eq_true rfl, Nat.le_of_ble_eq_true rfl⟩) rfl hl.1 rfl (Nat.le_of_ble_eq_true rfl) ⟨Nat.le_of_ble_eq_true rfl, Nat.le_of_ble_eq_true rfl⟩ dX0_arcsOf_34 (fun r1 S1 H locs h w => ?_)
    obtain ⟨h1, h2⟩ := h
    refine lv_if_eq (tgt := 112) hx hb dX0_arcsOf_37 (by decide) (fun c1 => ?_) (fun c1 => ?_)
    · have h := h1 c1
      exact C_arcsOf_a112 C hT4 hT15 hT24 hT65 h (lv_sub hl [0, 1, 2, 3, 4] rfl) w
    · have h := h2 c1
      refine lv_iload hx hb dX0_arcsOf_40 (lv_at hl 5 rfl) ?_
      refine lv_iload hx hb dX0_arcsOf_42 (lv_at hl 4 rfl) ?_
      obtain ⟨h1, h2⟩ := h
      refine lv_icmp_ne (tgt := 51) hx hb dX0_arcsOf_44 (by decide) (fun c1 => ?_) (fun c1 => ?_)
      · have h := h1 c1
        refine lv_aload_n hx hb dX0_arcsOf_51 rfl (lv_at hl 0 rfl) ?_
        refine lv_iload_n hx hb dX0_arcsOf_52 rfl (lv_at hl 3 rfl) ?_
        refine lv_iload hx hb dX0_arcsOf_53 (lv_at hl 4 rfl) ?_
        refine lv_iload hx hb dX0_arcsOf_55 (lv_at hl 5 rfl) ?_
        refine cr_callVI (rest := []) (b := (fun o => o 0)) C w h (recv0 w) (cwV 3 hts (lw_V q502 q504 qs22 q82 q505) rfl rfl rfl C_arcs_d ⟨Nat.le_of_ble_eq_true rfl, Nat.le_of_ble_eq_true rfl⟩) rfl hl.1 rfl (Nat.le_of_ble_eq_true rfl) ⟨Nat.le_of_ble_eq_true rfl, Nat.le_of_ble_eq_true rfl⟩ dX0_arcsOf_57 (fun r2 S2 H locs h w => ?_)
        exact C_arcsOf_a60 C hT4 hT15 hT24 hT65 h (lv_sub hl [0, 1, 2, 3, 4, 5] rfl) w
      · have h := h2 c1
        refine lv_iconst (v := 0) hx hb dX0_arcsOf_47 (by decide) ?_
        refine lv_goto (tgt := 60) hx hb dX0_arcsOf_48 (by decide) ?_
        exact C_arcsOf_a60 C hT4 hT15 hT24 hT65 h (lv_sub hl [0, 1, 2, 3, 4, 5] rfl) w
def C_arcsOf_w15 (post : Int32 → CS → Prop) (T4 : Int32 → Int32 → Int32 → CS → Prop) (T15 : Int32 → Int32 → Int32 → Int32 → CS → Prop) (T24 : Int32 → Int32 → Int32 → Int32 → Int32 → CS → Prop) (T65 : Int32 → Int32 → Int32 → Int32 → Int32 → Int32 → Int32 → CS → Prop) (x1 : Int32) (x2 : Int32) (x3 : Int32) (x4 : Int32) (S : CS) : Prop :=
  (((4 : Int32) ≤ x4 → T4 x1 x2 (x3 + (1 : Int32)) S) ∧ (¬ (4 : Int32) ≤ x4 → T24 x1 x2 x3 x4 (0 : Int32) S))
set_option maxHeartbeats 4000000 in
set_option maxRecDepth 100000 in
theorem C_arcsOf_a15 {p : Program} {l : Launch} {e : Env} {s : State} {m : MethodId} {args : Array Value} {below : List Frame} {meth : Method} {c : Code} {D : va_G} {dA : Nat → ClassId} {o : Nat → Nat} {A : Nat → Prop} {post : Int32 → CS → Prop} {T4 : Int32 → Int32 → Int32 → CS → Prop} {T15 : Int32 → Int32 → Int32 → Int32 → CS → Prop} {T24 : Int32 → Int32 → Int32 → Int32 → Int32 → CS → Prop} {T65 : Int32 → Int32 → Int32 → Int32 → Int32 → Int32 → Int32 → CS → Prop} (C : cC RX0 p m c cX0_arcsOf 8 s args meth (Option.some Jvm.ClassFile.FieldType.int) A) (hT4 : ∀ (x1 : Int32) (x2 : Int32) (x3 : Int32) (S : CS), T4 x1 x2 x3 S → ∀ (H : Heap) (locs : List Loc) (ls : Array Slot), lv_has ls 8 [(0, .ref (o 0)), (1, .int x1), (2, .int x2), (3, .int x3)] → cw D dA o A s S H locs → W p l e (rC_arcsOf) s m args below meth c H locs 0 0 (cQi below args s D dA o A (rC_arcsOf) post) (F0 m 4 ls [])) (hT15 : ∀ (x1 : Int32) (x2 : Int32) (x3 : Int32) (x4 : Int32) (S : CS), T15 x1 x2 x3 x4 S → ∀ (H : Heap) (locs : List Loc) (ls : Array Slot), lv_has ls 8 [(0, .ref (o 0)), (1, .int x1), (2, .int x2), (3, .int x3), (4, .int x4)] → cw D dA o A s S H locs → W p l e (rC_arcsOf) s m args below meth c H locs 0 0 (cQi below args s D dA o A (rC_arcsOf) post) (F0 m 15 ls [])) (hT24 : ∀ (x1 : Int32) (x2 : Int32) (x3 : Int32) (x4 : Int32) (x5 : Int32) (S : CS), T24 x1 x2 x3 x4 x5 S → ∀ (H : Heap) (locs : List Loc) (ls : Array Slot), lv_has ls 8 [(0, .ref (o 0)), (1, .int x1), (2, .int x2), (3, .int x3), (4, .int x4), (5, .int x5)] → cw D dA o A s S H locs → W p l e (rC_arcsOf) s m args below meth c H locs 0 0 (cQi below args s D dA o A (rC_arcsOf) post) (F0 m 24 ls [])) (hT65 : ∀ (x1 : Int32) (x2 : Int32) (x3 : Int32) (x4 : Int32) (x5 : Int32) (x6 : Int32) (x7 : Int32) (S : CS), T65 x1 x2 x3 x4 x5 x6 x7 S → ∀ (H : Heap) (locs : List Loc) (ls : Array Slot), lv_has ls 8 [(0, .ref (o 0)), (1, .int x1), (2, .int x2), (3, .int x3), (4, .int x4), (5, .int x5), (6, .int x6), (7, .int x7)] → cw D dA o A s S H locs → W p l e (rC_arcsOf) s m args below meth c H locs 0 0 (cQi below args s D dA o A (rC_arcsOf) post) (F0 m 65 ls [])) {x1 : Int32} {x2 : Int32} {x3 : Int32} {x4 : Int32} {S : CS} (h : C_arcsOf_w15 post T4 T15 T24 T65 x1 x2 x3 x4 S) {H : Heap} {locs : List Loc} {ls : Array Slot} (hl : lv_has ls 8 [(0, .ref (o 0)), (1, .int x1), (2, .int x2), (3, .int x3), (4, .int x4)]) (w : cw D dA o A s S H locs) : W p l e (rC_arcsOf) s m args below meth c H locs 0 0 (cQi below args s D dA o A (rC_arcsOf) post) (F0 m 15 ls []) := by
  unfold C_arcsOf_w15 at h
  obtain ⟨⟨hx, hb, hml, hown, hts⟩, hr, hlk, hA⟩ := id C
  refine lv_iload hx hb dX0_arcsOf_15 (lv_at hl 4 rfl) ?_
  refine lv_iconst (v := 4) hx hb dX0_arcsOf_17 (by decide) ?_
  obtain ⟨h1, h2⟩ := h
  refine lv_icmp_ge (tgt := 118) hx hb dX0_arcsOf_18 (by decide) (fun c1 => ?_) (fun c1 => ?_)
  · have h := h1 c1
    refine lv_iinc (v := _ + (1 : Int32)) (lv' := [(3, .int _), (0, .ref _), (1, .int _), (2, .int _), (4, .int _)]) hx hb dX0_arcsOf_118 hl (k := 3) rfl rfl (by decide) rfl (fun ls hl => ?_)
    refine lv_goto (tgt := 4) hx hb dX0_arcsOf_121 (by decide) ?_
    exact hT4 _ _ _ _ h _ _ _ (lv_sub hl [1, 2, 3, 0] rfl) w
  · have h := h2 c1
    refine lv_iconst (v := 0) hx hb dX0_arcsOf_21 (by decide) ?_
    refine lv_istore (lv' := [(5, .int _), (0, .ref _), (1, .int _), (2, .int _), (3, .int _), (4, .int _)]) hx hb dX0_arcsOf_22 hl (by decide) rfl (fun ls hl => ?_)
    exact hT24 _ _ _ _ _ _ h _ _ _ (lv_sub hl [1, 2, 3, 4, 5, 0] rfl) w
def C_arcsOf_w4 (post : Int32 → CS → Prop) (T4 : Int32 → Int32 → Int32 → CS → Prop) (T15 : Int32 → Int32 → Int32 → Int32 → CS → Prop) (T24 : Int32 → Int32 → Int32 → Int32 → Int32 → CS → Prop) (T65 : Int32 → Int32 → Int32 → Int32 → Int32 → Int32 → Int32 → CS → Prop) (x1 : Int32) (x2 : Int32) (x3 : Int32) (S : CS) : Prop :=
  (((kF S 1) ≤ x3 → post x2 S) ∧ (¬ (kF S 1) ≤ x3 → T15 x1 x2 x3 (0 : Int32) S))
set_option maxHeartbeats 4000000 in
set_option maxRecDepth 100000 in
theorem C_arcsOf_a4 {p : Program} {l : Launch} {e : Env} {s : State} {m : MethodId} {args : Array Value} {below : List Frame} {meth : Method} {c : Code} {D : va_G} {dA : Nat → ClassId} {o : Nat → Nat} {A : Nat → Prop} {post : Int32 → CS → Prop} {T4 : Int32 → Int32 → Int32 → CS → Prop} {T15 : Int32 → Int32 → Int32 → Int32 → CS → Prop} {T24 : Int32 → Int32 → Int32 → Int32 → Int32 → CS → Prop} {T65 : Int32 → Int32 → Int32 → Int32 → Int32 → Int32 → Int32 → CS → Prop} (C : cC RX0 p m c cX0_arcsOf 8 s args meth (Option.some Jvm.ClassFile.FieldType.int) A) (hT4 : ∀ (x1 : Int32) (x2 : Int32) (x3 : Int32) (S : CS), T4 x1 x2 x3 S → ∀ (H : Heap) (locs : List Loc) (ls : Array Slot), lv_has ls 8 [(0, .ref (o 0)), (1, .int x1), (2, .int x2), (3, .int x3)] → cw D dA o A s S H locs → W p l e (rC_arcsOf) s m args below meth c H locs 0 0 (cQi below args s D dA o A (rC_arcsOf) post) (F0 m 4 ls [])) (hT15 : ∀ (x1 : Int32) (x2 : Int32) (x3 : Int32) (x4 : Int32) (S : CS), T15 x1 x2 x3 x4 S → ∀ (H : Heap) (locs : List Loc) (ls : Array Slot), lv_has ls 8 [(0, .ref (o 0)), (1, .int x1), (2, .int x2), (3, .int x3), (4, .int x4)] → cw D dA o A s S H locs → W p l e (rC_arcsOf) s m args below meth c H locs 0 0 (cQi below args s D dA o A (rC_arcsOf) post) (F0 m 15 ls [])) (hT24 : ∀ (x1 : Int32) (x2 : Int32) (x3 : Int32) (x4 : Int32) (x5 : Int32) (S : CS), T24 x1 x2 x3 x4 x5 S → ∀ (H : Heap) (locs : List Loc) (ls : Array Slot), lv_has ls 8 [(0, .ref (o 0)), (1, .int x1), (2, .int x2), (3, .int x3), (4, .int x4), (5, .int x5)] → cw D dA o A s S H locs → W p l e (rC_arcsOf) s m args below meth c H locs 0 0 (cQi below args s D dA o A (rC_arcsOf) post) (F0 m 24 ls [])) (hT65 : ∀ (x1 : Int32) (x2 : Int32) (x3 : Int32) (x4 : Int32) (x5 : Int32) (x6 : Int32) (x7 : Int32) (S : CS), T65 x1 x2 x3 x4 x5 x6 x7 S → ∀ (H : Heap) (locs : List Loc) (ls : Array Slot), lv_has ls 8 [(0, .ref (o 0)), (1, .int x1), (2, .int x2), (3, .int x3), (4, .int x4), (5, .int x5), (6, .int x6), (7, .int x7)] → cw D dA o A s S H locs → W p l e (rC_arcsOf) s m args below meth c H locs 0 0 (cQi below args s D dA o A (rC_arcsOf) post) (F0 m 65 ls [])) {x1 : Int32} {x2 : Int32} {x3 : Int32} {S : CS} (h : C_arcsOf_w4 post T4 T15 T24 T65 x1 x2 x3 S) {H : Heap} {locs : List Loc} {ls : Array Slot} (hl : lv_has ls 8 [(0, .ref (o 0)), (1, .int x1), (2, .int x2), (3, .int x3)]) (w : cw D dA o A s S H locs) : W p l e (rC_arcsOf) s m args below meth c H locs 0 0 (cQi below args s D dA o A (rC_arcsOf) post) (F0 m 4 ls []) := by
  unfold C_arcsOf_w4 at h
  obtain ⟨⟨hx, hb, hml, hown, hts⟩, hr, hlk, hA⟩ := id C
  refine lv_iload_n hx hb dX0_arcsOf_4 rfl (lv_at hl 3 rfl) ?_
  refine lv_aload_n hx hb dX0_arcsOf_5 rfl (lv_at hl 0 rfl) ?_
  refine cr_get C w 0 rfl rfl in_X0 1 (by decide) q164 rfl rfl dX0_arcsOf_6 ?_
  obtain ⟨h1, h2⟩ := h
  refine lv_icmp_ge (tgt := 124) hx hb dX0_arcsOf_9 (by decide) (fun c1 => ?_) (fun c1 => ?_)
  · have h := h1 c1
    refine lv_iload_n hx hb dX0_arcsOf_124 rfl (lv_at hl 2 rfl) ?_
    exact cr_iret C w h (Nat.le_of_ble_eq_true rfl) (Nat.le_of_ble_eq_true rfl) dX0_arcsOf_125
  · have h := h2 c1
    refine lv_iconst (v := 0) hx hb dX0_arcsOf_12 (by decide) ?_
    refine lv_istore (lv' := [(4, .int _), (0, .ref _), (1, .int _), (2, .int _), (3, .int _)]) hx hb dX0_arcsOf_13 hl (by decide) rfl (fun ls hl => ?_)
    exact hT15 _ _ _ _ _ h _ _ _ (lv_sub hl [1, 2, 3, 4, 0] rfl) w
def C_arcsOf_w0 (post : Int32 → CS → Prop) (T4 : Int32 → Int32 → Int32 → CS → Prop) (T15 : Int32 → Int32 → Int32 → Int32 → CS → Prop) (T24 : Int32 → Int32 → Int32 → Int32 → Int32 → CS → Prop) (T65 : Int32 → Int32 → Int32 → Int32 → Int32 → Int32 → Int32 → CS → Prop) (x1 : Int32) (S : CS) : Prop :=
  T4 x1 (0 : Int32) (0 : Int32) S
set_option maxHeartbeats 4000000 in
set_option maxRecDepth 100000 in
theorem C_arcsOf_a0 {p : Program} {l : Launch} {e : Env} {s : State} {m : MethodId} {args : Array Value} {below : List Frame} {meth : Method} {c : Code} {D : va_G} {dA : Nat → ClassId} {o : Nat → Nat} {A : Nat → Prop} {post : Int32 → CS → Prop} {T4 : Int32 → Int32 → Int32 → CS → Prop} {T15 : Int32 → Int32 → Int32 → Int32 → CS → Prop} {T24 : Int32 → Int32 → Int32 → Int32 → Int32 → CS → Prop} {T65 : Int32 → Int32 → Int32 → Int32 → Int32 → Int32 → Int32 → CS → Prop} (C : cC RX0 p m c cX0_arcsOf 8 s args meth (Option.some Jvm.ClassFile.FieldType.int) A) (hT4 : ∀ (x1 : Int32) (x2 : Int32) (x3 : Int32) (S : CS), T4 x1 x2 x3 S → ∀ (H : Heap) (locs : List Loc) (ls : Array Slot), lv_has ls 8 [(0, .ref (o 0)), (1, .int x1), (2, .int x2), (3, .int x3)] → cw D dA o A s S H locs → W p l e (rC_arcsOf) s m args below meth c H locs 0 0 (cQi below args s D dA o A (rC_arcsOf) post) (F0 m 4 ls [])) (hT15 : ∀ (x1 : Int32) (x2 : Int32) (x3 : Int32) (x4 : Int32) (S : CS), T15 x1 x2 x3 x4 S → ∀ (H : Heap) (locs : List Loc) (ls : Array Slot), lv_has ls 8 [(0, .ref (o 0)), (1, .int x1), (2, .int x2), (3, .int x3), (4, .int x4)] → cw D dA o A s S H locs → W p l e (rC_arcsOf) s m args below meth c H locs 0 0 (cQi below args s D dA o A (rC_arcsOf) post) (F0 m 15 ls [])) (hT24 : ∀ (x1 : Int32) (x2 : Int32) (x3 : Int32) (x4 : Int32) (x5 : Int32) (S : CS), T24 x1 x2 x3 x4 x5 S → ∀ (H : Heap) (locs : List Loc) (ls : Array Slot), lv_has ls 8 [(0, .ref (o 0)), (1, .int x1), (2, .int x2), (3, .int x3), (4, .int x4), (5, .int x5)] → cw D dA o A s S H locs → W p l e (rC_arcsOf) s m args below meth c H locs 0 0 (cQi below args s D dA o A (rC_arcsOf) post) (F0 m 24 ls [])) (hT65 : ∀ (x1 : Int32) (x2 : Int32) (x3 : Int32) (x4 : Int32) (x5 : Int32) (x6 : Int32) (x7 : Int32) (S : CS), T65 x1 x2 x3 x4 x5 x6 x7 S → ∀ (H : Heap) (locs : List Loc) (ls : Array Slot), lv_has ls 8 [(0, .ref (o 0)), (1, .int x1), (2, .int x2), (3, .int x3), (4, .int x4), (5, .int x5), (6, .int x6), (7, .int x7)] → cw D dA o A s S H locs → W p l e (rC_arcsOf) s m args below meth c H locs 0 0 (cQi below args s D dA o A (rC_arcsOf) post) (F0 m 65 ls [])) {x1 : Int32} {S : CS} (h : C_arcsOf_w0 post T4 T15 T24 T65 x1 S) {H : Heap} {locs : List Loc} {ls : Array Slot} (hl : lv_has ls 8 [(0, .ref (o 0)), (1, .int x1)]) (w : cw D dA o A s S H locs) : W p l e (rC_arcsOf) s m args below meth c H locs 0 0 (cQi below args s D dA o A (rC_arcsOf) post) (F0 m 0 ls []) := by
  unfold C_arcsOf_w0 at h
  obtain ⟨⟨hx, hb, hml, hown, hts⟩, hr, hlk, hA⟩ := id C
  refine lv_iconst (v := 0) hx hb dX0_arcsOf_0 (by decide) ?_
  refine lv_istore_n (lv' := [(2, .int _), (0, .ref _), (1, .int _)]) hx hb dX0_arcsOf_1 rfl hl (by decide) rfl (fun ls hl => ?_)
  refine lv_iconst (v := 0) hx hb dX0_arcsOf_2 (by decide) ?_
  refine lv_istore_n (lv' := [(3, .int _), (2, .int _), (0, .ref _), (1, .int _)]) hx hb dX0_arcsOf_3 rfl hl (by decide) rfl (fun ls hl => ?_)
  exact hT4 _ _ _ _ h _ _ _ (lv_sub hl [2, 3, 1, 0] rfl) w
def C_arcsOf_VC (x1 : Int32) (S : CS) (post : Int32 → CS → Prop) : Prop := ∀ (T4 : Int32 → Int32 → Int32 → CS → Prop) (T15 : Int32 → Int32 → Int32 → Int32 → CS → Prop) (T24 : Int32 → Int32 → Int32 → Int32 → Int32 → CS → Prop) (T65 : Int32 → Int32 → Int32 → Int32 → Int32 → Int32 → Int32 → CS → Prop), (∀ (x1 : Int32) (x2 : Int32) (x3 : Int32) (S : CS), C_arcsOf_w4 post T4 T15 T24 T65 x1 x2 x3 S → T4 x1 x2 x3 S) → (∀ (x1 : Int32) (x2 : Int32) (x3 : Int32) (x4 : Int32) (S : CS), C_arcsOf_w15 post T4 T15 T24 T65 x1 x2 x3 x4 S → T15 x1 x2 x3 x4 S) → (∀ (x1 : Int32) (x2 : Int32) (x3 : Int32) (x4 : Int32) (x5 : Int32) (S : CS), C_arcsOf_w24 post T4 T15 T24 T65 x1 x2 x3 x4 x5 S → T24 x1 x2 x3 x4 x5 S) → (∀ (x1 : Int32) (x2 : Int32) (x3 : Int32) (x4 : Int32) (x5 : Int32) (x6 : Int32) (x7 : Int32) (S : CS), C_arcsOf_w65 post T4 T15 T24 T65 x1 x2 x3 x4 x5 x6 x7 S → T65 x1 x2 x3 x4 x5 x6 x7 S) → C_arcsOf_w0 post T4 T15 T24 T65 x1 S
theorem C_arcsOf_ok {x1 : Int32} {S : CS} {post : Int32 → CS → Prop} (h : C_arcsOf_VC x1 S post) : C_arcsOf x1 S post := by
  intro l D dA o sz
  refine cr_start (fun A => va_Qi post (cB D dA o A) A) rfl (Nat.le_of_ble_eq_true rfl) (by decide) ?_
  intro p e s m args below meth c ls A C w hl
  have hl : lv_has ls 8 [(0, .ref (o 0)), (1, .int x1)] := hl
  have h := h (fun (x1 : Int32) (x2 : Int32) (x3 : Int32) S => ∀ (H : Heap) (locs : List Loc) (ls : Array Slot), lv_has ls 8 [(0, .ref (o 0)), (1, .int x1), (2, .int x2), (3, .int x3)] → cw D dA o A s S H locs → W p l e (rC_arcsOf) s m args below meth c H locs 0 0 (cQi below args s D dA o A (rC_arcsOf) post) (F0 m 4 ls [])) (fun (x1 : Int32) (x2 : Int32) (x3 : Int32) (x4 : Int32) S => ∀ (H : Heap) (locs : List Loc) (ls : Array Slot), lv_has ls 8 [(0, .ref (o 0)), (1, .int x1), (2, .int x2), (3, .int x3), (4, .int x4)] → cw D dA o A s S H locs → W p l e (rC_arcsOf) s m args below meth c H locs 0 0 (cQi below args s D dA o A (rC_arcsOf) post) (F0 m 15 ls [])) (fun (x1 : Int32) (x2 : Int32) (x3 : Int32) (x4 : Int32) (x5 : Int32) S => ∀ (H : Heap) (locs : List Loc) (ls : Array Slot), lv_has ls 8 [(0, .ref (o 0)), (1, .int x1), (2, .int x2), (3, .int x3), (4, .int x4), (5, .int x5)] → cw D dA o A s S H locs → W p l e (rC_arcsOf) s m args below meth c H locs 0 0 (cQi below args s D dA o A (rC_arcsOf) post) (F0 m 24 ls [])) (fun (x1 : Int32) (x2 : Int32) (x3 : Int32) (x4 : Int32) (x5 : Int32) (x6 : Int32) (x7 : Int32) S => ∀ (H : Heap) (locs : List Loc) (ls : Array Slot), lv_has ls 8 [(0, .ref (o 0)), (1, .int x1), (2, .int x2), (3, .int x3), (4, .int x4), (5, .int x5), (6, .int x6), (7, .int x7)] → cw D dA o A s S H locs → W p l e (rC_arcsOf) s m args below meth c H locs 0 0 (cQi below args s D dA o A (rC_arcsOf) post) (F0 m 65 ls [])) (fun _ _ _ S h H locs ls hl w => C_arcsOf_a4 C (fun _ _ _ _ h => h) (fun _ _ _ _ _ h => h) (fun _ _ _ _ _ _ h => h) (fun _ _ _ _ _ _ _ _ h => h) h hl w) (fun _ _ _ _ S h H locs ls hl w => C_arcsOf_a15 C (fun _ _ _ _ h => h) (fun _ _ _ _ _ h => h) (fun _ _ _ _ _ _ h => h) (fun _ _ _ _ _ _ _ _ h => h) h hl w) (fun _ _ _ _ _ S h H locs ls hl w => C_arcsOf_a24 C (fun _ _ _ _ h => h) (fun _ _ _ _ _ h => h) (fun _ _ _ _ _ _ h => h) (fun _ _ _ _ _ _ _ _ h => h) h hl w) (fun _ _ _ _ _ _ _ S h H locs ls hl w => C_arcsOf_a65 C (fun _ _ _ _ h => h) (fun _ _ _ _ _ h => h) (fun _ _ _ _ _ _ h => h) (fun _ _ _ _ _ _ _ _ h => h) h hl w)
  exact C_arcsOf_a0 C (fun _ _ _ _ h => h) (fun _ _ _ _ _ h => h) (fun _ _ _ _ _ _ h => h) (fun _ _ _ _ _ _ _ _ h => h) h (lv_sub hl [0, 1] rfl) w

/-! ThirdSheets.part(II)I -/
def C_part_w119 (post : Int32 → CS → Prop) (T38 : Int32 → Int32 → Int32 → Int32 → CS → Prop) (v0 : Int32) (S : CS) : Prop :=
  post v0 S
set_option maxHeartbeats 4000000 in
set_option maxRecDepth 100000 in
theorem C_part_a119 {p : Program} {l : Launch} {e : Env} {s : State} {m : MethodId} {args : Array Value} {below : List Frame} {meth : Method} {c : Code} {D : va_G} {dA : Nat → ClassId} {o : Nat → Nat} {A : Nat → Prop} {post : Int32 → CS → Prop} {T38 : Int32 → Int32 → Int32 → Int32 → CS → Prop} (C : cC RX0 p m c cX0_part 6 s args meth (Option.some Jvm.ClassFile.FieldType.int) A) (hT38 : ∀ (x1 : Int32) (x2 : Int32) (x4 : Int32) (x5 : Int32) (S : CS), T38 x1 x2 x4 x5 S → ∀ (H : Heap) (locs : List Loc) (ls : Array Slot), lv_has ls 6 [(0, .ref (o 0)), (1, .int x1), (2, .int x2), (4, .int x4), (5, .int x5)] → cw D dA o A s S H locs → W p l e (rC_part) s m args below meth c H locs 0 0 (cQi below args s D dA o A (rC_part) post) (F0 m 38 ls [])) {v0 : Int32} {S : CS} (h : C_part_w119 post T38 v0 S) {H : Heap} {locs : List Loc} {ls : Array Slot} (hl : lv_has ls 6 [(0, .ref (o 0))]) (w : cw D dA o A s S H locs) : W p l e (rC_part) s m args below meth c H locs 0 0 (cQi below args s D dA o A (rC_part) post) (F0 m 119 ls [.int v0]) := by
  unfold C_part_w119 at h
  obtain ⟨⟨hx, hb, hml, hown, hts⟩, hr, hlk, hA⟩ := id C
  exact cr_iret C w h (Nat.le_of_ble_eq_true rfl) (Nat.le_of_ble_eq_true rfl) dX0_part_119
def C_part_w65 (post : Int32 → CS → Prop) (T38 : Int32 → Int32 → Int32 → Int32 → CS → Prop) (v0 : Int32) (v1 : Int32) (x1 : Int32) (x2 : Int32) (x5 : Int32) (S : CS) : Prop :=
  T38 x1 x2 (v1 + v0) (x5 + (1 : Int32)) S
set_option maxHeartbeats 4000000 in
set_option maxRecDepth 100000 in
theorem C_part_a65 {p : Program} {l : Launch} {e : Env} {s : State} {m : MethodId} {args : Array Value} {below : List Frame} {meth : Method} {c : Code} {D : va_G} {dA : Nat → ClassId} {o : Nat → Nat} {A : Nat → Prop} {post : Int32 → CS → Prop} {T38 : Int32 → Int32 → Int32 → Int32 → CS → Prop} (C : cC RX0 p m c cX0_part 6 s args meth (Option.some Jvm.ClassFile.FieldType.int) A) (hT38 : ∀ (x1 : Int32) (x2 : Int32) (x4 : Int32) (x5 : Int32) (S : CS), T38 x1 x2 x4 x5 S → ∀ (H : Heap) (locs : List Loc) (ls : Array Slot), lv_has ls 6 [(0, .ref (o 0)), (1, .int x1), (2, .int x2), (4, .int x4), (5, .int x5)] → cw D dA o A s S H locs → W p l e (rC_part) s m args below meth c H locs 0 0 (cQi below args s D dA o A (rC_part) post) (F0 m 38 ls [])) {v0 : Int32} {v1 : Int32} {x1 : Int32} {x2 : Int32} {x5 : Int32} {S : CS} (h : C_part_w65 post T38 v0 v1 x1 x2 x5 S) {H : Heap} {locs : List Loc} {ls : Array Slot} (hl : lv_has ls 6 [(0, .ref (o 0)), (1, .int x1), (2, .int x2), (5, .int x5)]) (w : cw D dA o A s S H locs) : W p l e (rC_part) s m args below meth c H locs 0 0 (cQi below args s D dA o A (rC_part) post) (F0 m 65 ls [.int v0, .int v1]) := by
  unfold C_part_w65 at h
  obtain ⟨⟨hx, hb, hml, hown, hts⟩, hr, hlk, hA⟩ := id C
  refine lv_iadd hx hb dX0_part_65 ?_
  refine lv_istore (lv' := [(4, .int _), (0, .ref _), (1, .int _), (2, .int _), (5, .int _)]) hx hb dX0_part_66 hl (by decide) rfl (fun ls hl => ?_)
  refine lv_iinc (v := _ + (1 : Int32)) (lv' := [(5, .int _), (4, .int _), (0, .ref _), (1, .int _), (2, .int _)]) hx hb dX0_part_68 hl (k := 4) rfl rfl (by decide) rfl (fun ls hl => ?_)
  refine lv_goto (tgt := 38) hx hb dX0_part_71 (by decide) ?_
  exact hT38 _ _ _ _ _ h _ _ _ (lv_sub hl [2, 3, 4, 1, 0] rfl) w
def C_part_w38 (post : Int32 → CS → Prop) (T38 : Int32 → Int32 → Int32 → Int32 → CS → Prop) (x1 : Int32) (x2 : Int32) (x4 : Int32) (x5 : Int32) (S : CS) : Prop :=
  C_allCuts S (fun (r1 : Int32) (S1 : CS) => ((r1 ≤ x5 → ((¬ x2 = 0 → ((¬ x2 = (1 : Int32) → (vp_in x1 400 ∧ (((kI S1 18 (x1).toNatClampNeg) = 0 → C_part_w119 post T38 (1 : Int32) S1) ∧ (¬ (kI S1 18 (x1).toNatClampNeg) = 0 → C_part_w119 post T38 (0 : Int32) S1)))) ∧ (x2 = (1 : Int32) → C_pointsOf x1 S1 (fun (r2 : Int32) (S2 : CS) => C_arcsOf x1 S2 (fun (r3 : Int32) (S3 : CS) => C_part_w119 post T38 ((r2 - r3) + x4) S3))))) ∧ (x2 = 0 → C_part_w119 post T38 x4 S1))) ∧ (¬ r1 ≤ x5 → (vp_in x5 400 ∧ ((¬ (kI S1 15 (x5).toNatClampNeg) = x1 → C_part_w65 post T38 (0 : Int32) x4 x1 x2 x5 S1) ∧ ((kI S1 15 (x5).toNatClampNeg) = x1 → C_part_w65 post T38 (1 : Int32) x4 x1 x2 x5 S1))))))
set_option maxHeartbeats 4000000 in
set_option maxRecDepth 100000 in
theorem C_part_a38 {p : Program} {l : Launch} {e : Env} {s : State} {m : MethodId} {args : Array Value} {below : List Frame} {meth : Method} {c : Code} {D : va_G} {dA : Nat → ClassId} {o : Nat → Nat} {A : Nat → Prop} {post : Int32 → CS → Prop} {T38 : Int32 → Int32 → Int32 → Int32 → CS → Prop} (C : cC RX0 p m c cX0_part 6 s args meth (Option.some Jvm.ClassFile.FieldType.int) A) (hT38 : ∀ (x1 : Int32) (x2 : Int32) (x4 : Int32) (x5 : Int32) (S : CS), T38 x1 x2 x4 x5 S → ∀ (H : Heap) (locs : List Loc) (ls : Array Slot), lv_has ls 6 [(0, .ref (o 0)), (1, .int x1), (2, .int x2), (4, .int x4), (5, .int x5)] → cw D dA o A s S H locs → W p l e (rC_part) s m args below meth c H locs 0 0 (cQi below args s D dA o A (rC_part) post) (F0 m 38 ls [])) {x1 : Int32} {x2 : Int32} {x4 : Int32} {x5 : Int32} {S : CS} (h : C_part_w38 post T38 x1 x2 x4 x5 S) {H : Heap} {locs : List Loc} {ls : Array Slot} (hl : lv_has ls 6 [(0, .ref (o 0)), (1, .int x1), (2, .int x2), (4, .int x4), (5, .int x5)]) (w : cw D dA o A s S H locs) : W p l e (rC_part) s m args below meth c H locs 0 0 (cQi below args s D dA o A (rC_part) post) (F0 m 38 ls []) := by
  unfold C_part_w38 at h
  obtain ⟨⟨hx, hb, hml, hown, hts⟩, hr, hlk, hA⟩ := id C
  refine lv_iload hx hb dX0_part_38 (lv_at hl 4 rfl) ?_
  refine lv_aload_n hx hb dX0_part_40 rfl (lv_at hl 0 rfl) ?_
  refine cr_callVI (rest := [.int _]) (b := (fun o => o 0)) C w h (recv0 w) (cwV 0 hts (lw_V q527 q529 qs26 q82 q530) rfl rfl rfl C_allCuts_d ⟨Nat.le_of_ble_eq_true rfl, Nat.le_of_ble_eq_true rfl⟩) rfl hl.1 rfl (Nat.le_of_ble_eq_true rfl) ⟨Nat.le_of_ble_eq_true rfl, Nat.le_of_ble_eq_true rfl⟩ dX0_part_41 (fun r1 S1 H locs h w => ?_)
  obtain ⟨h1, h2⟩ := h
  refine lv_icmp_ge (tgt := 74) hx hb dX0_part_44 (by decide) (fun c1 => ?_) (fun c1 => ?_)
  · have h := h1 c1
    refine lv_iload_n hx hb dX0_part_74 rfl (lv_at hl 2 rfl) ?_
    obtain ⟨h1, h2⟩ := h
    refine lv_if_ne (tgt := 83) hx hb dX0_part_75 (by decide) (fun c1 => ?_) (fun c1 => ?_)
    · have h := h1 c1
      refine lv_iload_n hx hb dX0_part_83 rfl (lv_at hl 2 rfl) ?_
      refine lv_iconst (v := 1) hx hb dX0_part_84 (by decide) ?_
      obtain ⟨h1, h2⟩ := h
      refine lv_icmp_ne (tgt := 105) hx hb dX0_part_85 (by decide) (fun c1 => ?_) (fun c1 => ?_)
      · have h := h1 c1
        refine lv_aload_n hx hb dX0_part_105 rfl (lv_at hl 0 rfl) ?_
        refine cr_get C w 0 rfl rfl in_X0 18 (by decide) q182 rfl rfl dX0_part_106 ?_
        refine lv_iload_n hx hb dX0_part_109 rfl (lv_at hl 1 rfl) ?_
        obtain ⟨hi, h⟩ := h
        refine cr_zald C w hi dX0_part_110 ?_
        obtain ⟨h1, h2⟩ := h
        refine lv_if_eq (tgt := 118) hx hb dX0_part_111 (by decide) (fun c1 => ?_) (fun c1 => ?_)
        · have h := h1 c1
          refine lv_iconst (v := 1) hx hb dX0_part_118 (by decide) ?_
          exact C_part_a119 C hT38 h (lv_sub hl [0] rfl) w
        · have h := h2 c1
          refine lv_iconst (v := 0) hx hb dX0_part_114 (by decide) ?_
          refine lv_goto (tgt := 119) hx hb dX0_part_115 (by decide) ?_
          exact C_part_a119 C hT38 h (lv_sub hl [0] rfl) w
      · have h := h2 c1
        refine lv_aload_n hx hb dX0_part_88 rfl (lv_at hl 0 rfl) ?_
        refine lv_iload_n hx hb dX0_part_89 rfl (lv_at hl 1 rfl) ?_
        refine cr_callVI (rest := []) (b := (fun o => o 0)) C w h (recv0 w) (cwV 1 hts (lw_V q562 q564 qs32 q82 q565) rfl rfl rfl C_pointsOf_d ⟨Nat.le_of_ble_eq_true rfl, Nat.le_of_ble_eq_true rfl⟩) rfl hl.1 rfl (Nat.le_of_ble_eq_true rfl) ⟨Nat.le_of_ble_eq_true rfl, Nat.le_of_ble_eq_true rfl⟩ dX0_part_90 (fun r2 S2 H locs h w => ?_)
        refine lv_aload_n hx hb dX0_part_93 rfl (lv_at hl 0 rfl) ?_
        refine lv_iload_n hx hb dX0_part_94 rfl (lv_at hl 1 rfl) ?_
        refine cr_callVI (rest := [.int _]) (b := (fun o => o 0)) C w h (recv0 w) (cwV 1 hts (lw_V q566 q568 qs33 q82 q569) rfl rfl rfl C_arcsOf_d ⟨Nat.le_of_ble_eq_true rfl, Nat.le_of_ble_eq_true rfl⟩) rfl hl.1 rfl (Nat.le_of_ble_eq_true rfl) ⟨Nat.le_of_ble_eq_true rfl, Nat.le_of_ble_eq_true rfl⟩ dX0_part_95 (fun r3 S3 H locs h w => ?_)
        refine lv_isub hx hb dX0_part_98 ?_
        refine lv_iload hx hb dX0_part_99 (lv_at hl 3 rfl) ?_
        refine lv_iadd hx hb dX0_part_101 ?_
        refine lv_goto (tgt := 119) hx hb dX0_part_102 (by decide) ?_
        exact C_part_a119 C hT38 h (lv_sub hl [0] rfl) w
    · have h := h2 c1
      refine lv_iload hx hb dX0_part_78 (lv_at hl 3 rfl) ?_
      refine lv_goto (tgt := 119) hx hb dX0_part_80 (by decide) ?_
      exact C_part_a119 C hT38 h (lv_sub hl [0] rfl) w
  · have h := h2 c1
    refine lv_iload hx hb dX0_part_47 (lv_at hl 3 rfl) ?_
    refine lv_aload_n hx hb dX0_part_49 rfl (lv_at hl 0 rfl) ?_
    refine cr_get C w 0 rfl rfl in_X0 15 (by decide) q179 rfl rfl dX0_part_50 ?_
    refine lv_iload hx hb dX0_part_53 (lv_at hl 4 rfl) ?_
    obtain ⟨hi, h⟩ := h
    refine cr_iald C w 10 rfl hi dX0_part_55 ?_
    refine lv_iload_n hx hb dX0_part_56 rfl (lv_at hl 1 rfl) ?_
    obtain ⟨h1, h2⟩ := h
    refine lv_icmp_ne (tgt := 64) hx hb dX0_part_57 (by decide) (fun c1 => ?_) (fun c1 => ?_)
    · have h := h1 c1
      refine lv_iconst (v := 0) hx hb dX0_part_64 (by decide) ?_
      exact C_part_a65 C hT38 h (lv_sub hl [0, 1, 2, 4] rfl) w
    · have h := h2 c1
      refine lv_iconst (v := 1) hx hb dX0_part_60 (by decide) ?_
      refine lv_goto (tgt := 65) hx hb dX0_part_61 (by decide) ?_
      exact C_part_a65 C hT38 h (lv_sub hl [0, 1, 2, 4] rfl) w
def C_part_w29 (post : Int32 → CS → Prop) (T38 : Int32 → Int32 → Int32 → Int32 → CS → Prop) (S : CS) : Prop :=
  post (-2147483648 : Int32) S
set_option maxHeartbeats 4000000 in
set_option maxRecDepth 100000 in
theorem C_part_a29 {p : Program} {l : Launch} {e : Env} {s : State} {m : MethodId} {args : Array Value} {below : List Frame} {meth : Method} {c : Code} {D : va_G} {dA : Nat → ClassId} {o : Nat → Nat} {A : Nat → Prop} {post : Int32 → CS → Prop} {T38 : Int32 → Int32 → Int32 → Int32 → CS → Prop} (C : cC RX0 p m c cX0_part 6 s args meth (Option.some Jvm.ClassFile.FieldType.int) A) (hT38 : ∀ (x1 : Int32) (x2 : Int32) (x4 : Int32) (x5 : Int32) (S : CS), T38 x1 x2 x4 x5 S → ∀ (H : Heap) (locs : List Loc) (ls : Array Slot), lv_has ls 6 [(0, .ref (o 0)), (1, .int x1), (2, .int x2), (4, .int x4), (5, .int x5)] → cw D dA o A s S H locs → W p l e (rC_part) s m args below meth c H locs 0 0 (cQi below args s D dA o A (rC_part) post) (F0 m 38 ls [])) {S : CS} (h : C_part_w29 post T38 S) {H : Heap} {locs : List Loc} {ls : Array Slot} (hl : lv_has ls 6 [(0, .ref (o 0))]) (w : cw D dA o A s S H locs) : W p l e (rC_part) s m args below meth c H locs 0 0 (cQi below args s D dA o A (rC_part) post) (F0 m 29 ls []) := by
  unfold C_part_w29 at h
  obtain ⟨⟨hx, hb, hml, hown, hts⟩, hr, hlk, hA⟩ := id C
  refine lv_ldc hx hb hown (hts _ q362) dX0_part_29 ?_
  exact cr_iret C w h (Nat.le_of_ble_eq_true rfl) (Nat.le_of_ble_eq_true rfl) dX0_part_31
def C_part_w0 (post : Int32 → CS → Prop) (T38 : Int32 → Int32 → Int32 → Int32 → CS → Prop) (x1 : Int32) (x2 : Int32) (S : CS) : Prop :=
  C_parts S (fun (r1 : Int32) (S1 : CS) => C_isIn x2 (0 : Int32) (2 : Int32) S1 (fun (r2 : Int32) (S2 : CS) => ((r2 = 0 → C_part_w29 post T38 S2) ∧ (¬ r2 = 0 → ((r1 < 0 → C_part_w29 post T38 S2) ∧ (¬ r1 < 0 → C_isIn x1 (0 : Int32) (r1 - (1 : Int32)) S2 (fun (r3 : Int32) (S3 : CS) => ((¬ r3 = 0 → T38 x1 x2 (0 : Int32) (0 : Int32) S3) ∧ (r3 = 0 → C_part_w29 post T38 S3)))))))))
set_option maxHeartbeats 4000000 in
set_option maxRecDepth 100000 in
theorem C_part_a0 {p : Program} {l : Launch} {e : Env} {s : State} {m : MethodId} {args : Array Value} {below : List Frame} {meth : Method} {c : Code} {D : va_G} {dA : Nat → ClassId} {o : Nat → Nat} {A : Nat → Prop} {post : Int32 → CS → Prop} {T38 : Int32 → Int32 → Int32 → Int32 → CS → Prop} (C : cC RX0 p m c cX0_part 6 s args meth (Option.some Jvm.ClassFile.FieldType.int) A) (hT38 : ∀ (x1 : Int32) (x2 : Int32) (x4 : Int32) (x5 : Int32) (S : CS), T38 x1 x2 x4 x5 S → ∀ (H : Heap) (locs : List Loc) (ls : Array Slot), lv_has ls 6 [(0, .ref (o 0)), (1, .int x1), (2, .int x2), (4, .int x4), (5, .int x5)] → cw D dA o A s S H locs → W p l e (rC_part) s m args below meth c H locs 0 0 (cQi below args s D dA o A (rC_part) post) (F0 m 38 ls [])) {x1 : Int32} {x2 : Int32} {S : CS} (h : C_part_w0 post T38 x1 x2 S) {H : Heap} {locs : List Loc} {ls : Array Slot} (hl : lv_has ls 6 [(0, .ref (o 0)), (1, .int x1), (2, .int x2)]) (w : cw D dA o A s S H locs) : W p l e (rC_part) s m args below meth c H locs 0 0 (cQi below args s D dA o A (rC_part) post) (F0 m 0 ls []) := by
  unfold C_part_w0 at h
  obtain ⟨⟨hx, hb, hml, hown, hts⟩, hr, hlk, hA⟩ := id C
  refine lv_aload_n hx hb dX0_part_0 rfl (lv_at hl 0 rfl) ?_
  refine cr_callVI (rest := []) (b := (fun o => o 0)) C w h (recv0 w) (cwV 0 hts (lw_V q561 q524 q525 q82 q526) rfl rfl rfl C_parts_d ⟨Nat.le_of_ble_eq_true rfl, Nat.le_of_ble_eq_true rfl⟩) rfl hl.1 rfl (Nat.le_of_ble_eq_true rfl) ⟨Nat.le_of_ble_eq_true rfl, Nat.le_of_ble_eq_true rfl⟩ dX0_part_1 (fun r1 S1 H locs h w => ?_)
  refine lv_istore_n (lv' := [(3, .int _), (0, .ref _), (1, .int _), (2, .int _)]) hx hb dX0_part_4 rfl hl (by decide) rfl (fun ls hl => ?_)
  refine lv_iload_n hx hb dX0_part_5 rfl (lv_at hl 3 rfl) ?_
  refine lv_iconst (v := 0) hx hb dX0_part_6 (by decide) ?_
  refine lv_iconst (v := 2) hx hb dX0_part_7 (by decide) ?_
  refine cr_callSI (rest := []) C w h (va_cwS 3 hts (lw_S q244 q245 q82 q246) rfl rfl rfl C_isIn_d ⟨Nat.le_of_ble_eq_true rfl, Nat.le_of_ble_eq_true rfl⟩) rfl hl.1 rfl (Nat.le_of_ble_eq_true rfl) ⟨Nat.le_of_ble_eq_true rfl, Nat.le_of_ble_eq_true rfl⟩ dX0_part_8 (fun r2 S2 H locs h w => ?_)
  obtain ⟨h1, h2⟩ := h
  refine lv_if_eq (tgt := 29) hx hb dX0_part_11 (by decide) (fun c1 => ?_) (fun c1 => ?_)
  · have h := h1 c1
    exact C_part_a29 C hT38 h (lv_sub hl [1] rfl) w
  · have h := h2 c1
    refine lv_iload_n hx hb dX0_part_14 rfl (lv_at hl 0 rfl) ?_
    obtain ⟨h1, h2⟩ := h
    refine lv_if_lt (tgt := 29) hx hb dX0_part_15 (by decide) (fun c1 => ?_) (fun c1 => ?_)
    · have h := h1 c1
      exact C_part_a29 C hT38 h (lv_sub hl [1] rfl) w
    · have h := h2 c1
      refine lv_iload_n hx hb dX0_part_18 rfl (lv_at hl 2 rfl) ?_
      refine lv_iconst (v := 0) hx hb dX0_part_19 (by decide) ?_
      refine lv_iload_n hx hb dX0_part_20 rfl (lv_at hl 0 rfl) ?_
      refine lv_iconst (v := 1) hx hb dX0_part_21 (by decide) ?_
      refine lv_isub hx hb dX0_part_22 ?_
      refine cr_callSI (rest := []) C w h (va_cwS 3 hts (lw_S q244 q245 q82 q246) rfl rfl rfl C_isIn_d ⟨Nat.le_of_ble_eq_true rfl, Nat.le_of_ble_eq_true rfl⟩) rfl hl.1 rfl (Nat.le_of_ble_eq_true rfl) ⟨Nat.le_of_ble_eq_true rfl, Nat.le_of_ble_eq_true rfl⟩ dX0_part_23 (fun r3 S3 H locs h w => ?_)
      obtain ⟨h1, h2⟩ := h
      refine lv_if_ne (tgt := 32) hx hb dX0_part_26 (by decide) (fun c1 => ?_) (fun c1 => ?_)
      · have h := h1 c1
        refine lv_iconst (v := 0) hx hb dX0_part_32 (by decide) ?_
        refine lv_istore (lv' := [(4, .int _), (3, .int _), (0, .ref _), (1, .int _), (2, .int _)]) hx hb dX0_part_33 hl (by decide) rfl (fun ls hl => ?_)
        refine lv_iconst (v := 0) hx hb dX0_part_35 (by decide) ?_
        refine lv_istore (lv' := [(5, .int _), (4, .int _), (3, .int _), (0, .ref _), (1, .int _), (2, .int _)]) hx hb dX0_part_36 hl (by decide) rfl (fun ls hl => ?_)
        exact hT38 _ _ _ _ _ h _ _ _ (lv_sub hl [3, 4, 5, 1, 0] rfl) w
      · have h := h2 c1
        exact C_part_a29 C hT38 h (lv_sub hl [1] rfl) w
def C_part_VC (x1 : Int32) (x2 : Int32) (S : CS) (post : Int32 → CS → Prop) : Prop := ∀ (T38 : Int32 → Int32 → Int32 → Int32 → CS → Prop), (∀ (x1 : Int32) (x2 : Int32) (x4 : Int32) (x5 : Int32) (S : CS), C_part_w38 post T38 x1 x2 x4 x5 S → T38 x1 x2 x4 x5 S) → C_part_w0 post T38 x1 x2 S
theorem C_part_ok {x1 : Int32} {x2 : Int32} {S : CS} {post : Int32 → CS → Prop} (h : C_part_VC x1 x2 S post) : C_part x1 x2 S post := by
  intro l D dA o sz
  refine cr_start (fun A => va_Qi post (cB D dA o A) A) rfl (Nat.le_of_ble_eq_true rfl) (by decide) ?_
  intro p e s m args below meth c ls A C w hl
  have hl : lv_has ls 6 [(0, .ref (o 0)), (1, .int x1), (2, .int x2)] := hl
  have h := h (fun (x1 : Int32) (x2 : Int32) (x4 : Int32) (x5 : Int32) S => ∀ (H : Heap) (locs : List Loc) (ls : Array Slot), lv_has ls 6 [(0, .ref (o 0)), (1, .int x1), (2, .int x2), (4, .int x4), (5, .int x5)] → cw D dA o A s S H locs → W p l e (rC_part) s m args below meth c H locs 0 0 (cQi below args s D dA o A (rC_part) post) (F0 m 38 ls [])) (fun _ _ _ _ S h H locs ls hl w => C_part_a38 C (fun _ _ _ _ _ h => h) h hl w)
  exact C_part_a0 C (fun _ _ _ _ _ h => h) h (lv_sub hl [0, 1, 2] rfl) w

/-! ThirdSheets$Sort.first(I)I -/
def C_firstS2_w2 (post : Int32 → CS → Prop) (T2 : Int32 → Int32 → CS → Prop) (x1 : Int32) (x2 : Int32) (S : CS) : Prop :=
  (vp_in x2 12 ∧ (((kI S 32 (x2).toNatClampNeg) = x1 → post x2 S) ∧ (¬ (kI S 32 (x2).toNatClampNeg) = x1 → T2 x1 (x2 + (1 : Int32)) S)))
set_option maxHeartbeats 4000000 in
set_option maxRecDepth 100000 in
theorem C_firstS2_a2 {p : Program} {l : Launch} {e : Env} {s : State} {m : MethodId} {args : Array Value} {below : List Frame} {meth : Method} {c : Code} {D : va_G} {dA : Nat → ClassId} {o : Nat → Nat} {A : Nat → Prop} {post : Int32 → CS → Prop} {T2 : Int32 → Int32 → CS → Prop} (C : cC RX1 p m c cX1_first 3 s args meth (Option.some Jvm.ClassFile.FieldType.int) A) (hT2 : ∀ (x1 : Int32) (x2 : Int32) (S : CS), T2 x1 x2 S → ∀ (H : Heap) (locs : List Loc) (ls : Array Slot), lv_has ls 3 [(0, .ref (o 2)), (1, .int x1), (2, .int x2)] → cw D dA o A s S H locs → W p l e (rC_firstS2) s m args below meth c H locs 0 0 (cQi below args s D dA o A (rC_firstS2) post) (F0 m 2 ls [])) {x1 : Int32} {x2 : Int32} {S : CS} (h : C_firstS2_w2 post T2 x1 x2 S) {H : Heap} {locs : List Loc} {ls : Array Slot} (hl : lv_has ls 3 [(0, .ref (o 2)), (1, .int x1), (2, .int x2)]) (w : cw D dA o A s S H locs) : W p l e (rC_firstS2) s m args below meth c H locs 0 0 (cQi below args s D dA o A (rC_firstS2) post) (F0 m 2 ls []) := by
  unfold C_firstS2_w2 at h
  obtain ⟨⟨hx, hb, hml, hown, hts⟩, hr, hlk, hA⟩ := id C
  refine lv_aload_n hx hb dX1_first_2 rfl (lv_at hl 0 rfl) ?_
  refine cr_get C w 1 rfl rfl in_X2' 1 (by decide) q114 rfl rfl dX1_first_3 ?_
  refine lv_iload_n hx hb dX1_first_6 rfl (lv_at hl 2 rfl) ?_
  obtain ⟨hi, h⟩ := h
  refine cr_iald C w 14 rfl hi dX1_first_7 ?_
  refine lv_iload_n hx hb dX1_first_8 rfl (lv_at hl 1 rfl) ?_
  obtain ⟨h1, h2⟩ := h
  refine lv_icmp_eq (tgt := 18) hx hb dX1_first_9 (by decide) (fun c1 => ?_) (fun c1 => ?_)
  · have h := h1 c1
    refine lv_iload_n hx hb dX1_first_18 rfl (lv_at hl 2 rfl) ?_
    exact cr_iret C w h (Nat.le_of_ble_eq_true rfl) (Nat.le_of_ble_eq_true rfl) dX1_first_19
  · have h := h2 c1
    refine lv_iinc (v := _ + (1 : Int32)) (lv' := [(2, .int _), (0, .ref _), (1, .int _)]) hx hb dX1_first_12 hl (k := 2) rfl rfl (by decide) rfl (fun ls hl => ?_)
    refine lv_goto (tgt := 2) hx hb dX1_first_15 (by decide) ?_
    exact hT2 _ _ _ h _ _ _ (lv_sub hl [1, 2, 0] rfl) w
def C_firstS2_w0 (post : Int32 → CS → Prop) (T2 : Int32 → Int32 → CS → Prop) (x1 : Int32) (S : CS) : Prop :=
  T2 x1 (0 : Int32) S
set_option maxHeartbeats 4000000 in
set_option maxRecDepth 100000 in
theorem C_firstS2_a0 {p : Program} {l : Launch} {e : Env} {s : State} {m : MethodId} {args : Array Value} {below : List Frame} {meth : Method} {c : Code} {D : va_G} {dA : Nat → ClassId} {o : Nat → Nat} {A : Nat → Prop} {post : Int32 → CS → Prop} {T2 : Int32 → Int32 → CS → Prop} (C : cC RX1 p m c cX1_first 3 s args meth (Option.some Jvm.ClassFile.FieldType.int) A) (hT2 : ∀ (x1 : Int32) (x2 : Int32) (S : CS), T2 x1 x2 S → ∀ (H : Heap) (locs : List Loc) (ls : Array Slot), lv_has ls 3 [(0, .ref (o 2)), (1, .int x1), (2, .int x2)] → cw D dA o A s S H locs → W p l e (rC_firstS2) s m args below meth c H locs 0 0 (cQi below args s D dA o A (rC_firstS2) post) (F0 m 2 ls [])) {x1 : Int32} {S : CS} (h : C_firstS2_w0 post T2 x1 S) {H : Heap} {locs : List Loc} {ls : Array Slot} (hl : lv_has ls 3 [(0, .ref (o 2)), (1, .int x1)]) (w : cw D dA o A s S H locs) : W p l e (rC_firstS2) s m args below meth c H locs 0 0 (cQi below args s D dA o A (rC_firstS2) post) (F0 m 0 ls []) := by
  unfold C_firstS2_w0 at h
  obtain ⟨⟨hx, hb, hml, hown, hts⟩, hr, hlk, hA⟩ := id C
  refine lv_iconst (v := 0) hx hb dX1_first_0 (by decide) ?_
  refine lv_istore_n (lv' := [(2, .int _), (0, .ref _), (1, .int _)]) hx hb dX1_first_1 rfl hl (by decide) rfl (fun ls hl => ?_)
  exact hT2 _ _ _ h _ _ _ (lv_sub hl [1, 2, 0] rfl) w
def C_firstS2_VC (x1 : Int32) (S : CS) (post : Int32 → CS → Prop) : Prop := ∀ (T2 : Int32 → Int32 → CS → Prop), (∀ (x1 : Int32) (x2 : Int32) (S : CS), C_firstS2_w2 post T2 x1 x2 S → T2 x1 x2 S) → C_firstS2_w0 post T2 x1 S
theorem C_firstS2_ok {x1 : Int32} {S : CS} {post : Int32 → CS → Prop} (h : C_firstS2_VC x1 S post) : C_firstS2 x1 S post := by
  intro l D dA o sz
  refine cr_start (fun A => va_Qi post (cB D dA o A) A) rfl (Nat.le_of_ble_eq_true rfl) (by decide) ?_
  intro p e s m args below meth c ls A C w hl
  have hl : lv_has ls 3 [(0, .ref (o 2)), (1, .int x1)] := hl
  have h := h (fun (x1 : Int32) (x2 : Int32) S => ∀ (H : Heap) (locs : List Loc) (ls : Array Slot), lv_has ls 3 [(0, .ref (o 2)), (1, .int x1), (2, .int x2)] → cw D dA o A s S H locs → W p l e (rC_firstS2) s m args below meth c H locs 0 0 (cQi below args s D dA o A (rC_firstS2) post) (F0 m 2 ls [])) (fun _ _ S h H locs ls hl w => C_firstS2_a2 C (fun _ _ _ h => h) h hl w)
  exact C_firstS2_a0 C (fun _ _ _ h => h) h (lv_sub hl [0, 1] rfl) w
