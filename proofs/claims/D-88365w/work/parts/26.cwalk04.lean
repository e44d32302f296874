/-! ThirdSheets.link(I)I -/
def C_link_w40 (post : Int32 → CS → Prop) (v0 : Int32) (S : CS) : Prop :=
  post v0 S
set_option maxHeartbeats 4000000 in
set_option maxRecDepth 100000 in
theorem C_link_a40 {p : Program} {l : Launch} {e : Env} {s : State} {m : MethodId} {args : Array Value} {below : List Frame} {meth : Method} {c : Code} {D : va_G} {dA : Nat → ClassId} {o : Nat → Nat} {A : Nat → Prop} {post : Int32 → CS → Prop} (C : cC RX0 p m c cX0_link 2 s args meth (Option.some Jvm.ClassFile.FieldType.int) A) {v0 : Int32} {S : CS} (h : C_link_w40 post v0 S) {H : Heap} {locs : List Loc} {ls : Array Slot} (hl : lv_has ls 2 [(0, .ref (o 0))]) (w : cw D dA o A s S H locs) : W p l e (rC_link) s m args below meth c H locs 0 0 (cQi below args s D dA o A (rC_link) post) (F0 m 40 ls [.int v0]) := by
  unfold C_link_w40 at h
  obtain ⟨⟨hx, hb, hml, hown, hts⟩, hr, hlk, hA⟩ := id C
  exact cr_iret C w h (Nat.le_of_ble_eq_true rfl) (Nat.le_of_ble_eq_true rfl) dX0_link_40
def C_link_w0 (post : Int32 → CS → Prop) (x1 : Int32) (S : CS) : Prop :=
  C_findS2 S (fun (r1 : Int32) (S1 : CS) => C_isIn x1 (0 : Int32) (r1 - (1 : Int32)) S1 (fun (r2 : Int32) (S2 : CS) => ((¬ r2 = 0 → C_findS4 S2 (fun (r3 : Int32) (S3 : CS) => ((r3 ≤ 0 → C_link_w40 post (-2147483648 : Int32) S3) ∧ (¬ r3 ≤ 0 → C_linkOf x1 S3 (fun (r4 : Int32) (S4 : CS) => C_link_w40 post r4 S4))))) ∧ (r2 = 0 → post (-2147483648 : Int32) S2))))
set_option maxHeartbeats 4000000 in
set_option maxRecDepth 100000 in
theorem C_link_a0 {p : Program} {l : Launch} {e : Env} {s : State} {m : MethodId} {args : Array Value} {below : List Frame} {meth : Method} {c : Code} {D : va_G} {dA : Nat → ClassId} {o : Nat → Nat} {A : Nat → Prop} {post : Int32 → CS → Prop} (C : cC RX0 p m c cX0_link 2 s args meth (Option.some Jvm.ClassFile.FieldType.int) A) {x1 : Int32} {S : CS} (h : C_link_w0 post x1 S) {H : Heap} {locs : List Loc} {ls : Array Slot} (hl : lv_has ls 2 [(0, .ref (o 0)), (1, .int x1)]) (w : cw D dA o A s S H locs) : W p l e (rC_link) s m args below meth c H locs 0 0 (cQi below args s D dA o A (rC_link) post) (F0 m 0 ls []) := by
  unfold C_link_w0 at h
  obtain ⟨⟨hx, hb, hml, hown, hts⟩, hr, hlk, hA⟩ := id C
  refine lv_iload_n hx hb dX0_link_0 rfl (lv_at hl 1 rfl) ?_
  refine lv_iconst (v := 0) hx hb dX0_link_1 (by decide) ?_
  refine lv_aload_n hx hb dX0_link_2 rfl (lv_at hl 0 rfl) ?_
  refine cr_get C w 0 rfl rfl in_X0 2 (by decide) q166 rfl rfl dX0_link_3 ?_
  refine cr_callUI (owner := RX1) (rest := [.int _, .int _]) (b := fun o => o 2) C w h (recv2 w) (va_cwU 0 hts (lw_U q289 q290 q292 q293 q83 q294) rfl rfl rfl rfl (by decide +kernel) ⟨Nat.le_of_ble_eq_true rfl, Nat.le_of_ble_eq_true rfl⟩) rfl hl.1 rfl (Nat.le_of_ble_eq_true rfl) ⟨Nat.le_of_ble_eq_true rfl, Nat.le_of_ble_eq_true rfl⟩ dX0_link_6 (fun r1 S1 H locs h w => ?_)
  refine lv_iconst (v := 1) hx hb dX0_link_9 (by decide) ?_
  refine lv_isub hx hb dX0_link_10 ?_
  refine cr_callSI (rest := []) C w h (va_cwS 3 hts (lw_S q244 q245 q82 q246) rfl rfl rfl C_isIn_d ⟨Nat.le_of_ble_eq_true rfl, Nat.le_of_ble_eq_true rfl⟩) rfl hl.1 rfl (Nat.le_of_ble_eq_true rfl) ⟨Nat.le_of_ble_eq_true rfl, Nat.le_of_ble_eq_true rfl⟩ dX0_link_11 (fun r2 S2 H locs h w => ?_)
  obtain ⟨h1, h2⟩ := h
  refine lv_if_ne (tgt := 20) hx hb dX0_link_14 (by decide) (fun c1 => ?_) (fun c1 => ?_)
  · have h := h1 c1
    refine lv_aload_n hx hb dX0_link_20 rfl (lv_at hl 0 rfl) ?_
    refine cr_get C w 0 rfl rfl in_X0 4 (by decide) q168 rfl rfl dX0_link_21 ?_
    refine cr_callUI (owner := RX1) (rest := []) (b := fun o => o 4) C w h (recv4 w) (va_cwU 0 hts (lw_U q342 q343 q344 q293 q83 q294) rfl rfl rfl rfl (by decide +kernel) ⟨Nat.le_of_ble_eq_true rfl, Nat.le_of_ble_eq_true rfl⟩) rfl hl.1 rfl (Nat.le_of_ble_eq_true rfl) ⟨Nat.le_of_ble_eq_true rfl, Nat.le_of_ble_eq_true rfl⟩ dX0_link_24 (fun r3 S3 H locs h w => ?_)
    obtain ⟨h1, h2⟩ := h
    refine lv_if_le (tgt := 38) hx hb dX0_link_27 (by decide) (fun c1 => ?_) (fun c1 => ?_)
    · have h := h1 c1
      refine lv_ldc hx hb hown (hts _ q362) dX0_link_38 ?_
      exact C_link_a40 C h (lv_sub hl [0] rfl) w
    · have h := h2 c1
      refine lv_aload_n hx hb dX0_link_30 rfl (lv_at hl 0 rfl) ?_
      refine lv_iload_n hx hb dX0_link_31 rfl (lv_at hl 1 rfl) ?_
      refine cr_callVI (rest := []) (b := (fun o => o 0)) C w h (recv0 w) (cwV 1 hts (lw_V q363 q365 qs3 q82 q366) rfl rfl rfl C_linkOf_d ⟨Nat.le_of_ble_eq_true rfl, Nat.le_of_ble_eq_true rfl⟩) rfl hl.1 rfl (Nat.le_of_ble_eq_true rfl) ⟨Nat.le_of_ble_eq_true rfl, Nat.le_of_ble_eq_true rfl⟩ dX0_link_32 (fun r4 S4 H locs h w => ?_)
      refine lv_goto (tgt := 40) hx hb dX0_link_35 (by decide) ?_
      exact C_link_a40 C h (lv_sub hl [0] rfl) w
  · have h := h2 c1
    refine lv_ldc hx hb hown (hts _ q362) dX0_link_17 ?_
    exact cr_iret C w h (Nat.le_of_ble_eq_true rfl) (Nat.le_of_ble_eq_true rfl) dX0_link_19
def C_link_VC (x1 : Int32) (S : CS) (post : Int32 → CS → Prop) : Prop := C_link_w0 post x1 S
theorem C_link_ok {x1 : Int32} {S : CS} {post : Int32 → CS → Prop} (h : C_link_VC x1 S post) : C_link x1 S post := by
  intro l D dA o sz
  refine cr_start (fun A => va_Qi post (cB D dA o A) A) rfl (Nat.le_of_ble_eq_true rfl) (by decide) ?_
  intro p e s m args below meth c ls A C w hl
  have hl : lv_has ls 2 [(0, .ref (o 0)), (1, .int x1)] := hl
  exact C_link_a0 C h (lv_sub hl [0, 1] rfl) w

/-! ThirdSheets.openOnes()I -/
def C_openOnes_w36 (post : Int32 → CS → Prop) (T4 : Int32 → Int32 → CS → Prop) (T14 : Int32 → Int32 → Int32 → CS → Prop) (v0 : Int32) (v1 : Int32) (x2 : Int32) (x3 : Int32) (S : CS) : Prop :=
  T14 (v1 + v0) x2 (x3 + (1 : Int32)) S
set_option maxHeartbeats 4000000 in
set_option maxRecDepth 100000 in
theorem C_openOnes_a36 {p : Program} {l : Launch} {e : Env} {s : State} {m : MethodId} {args : Array Value} {below : List Frame} {meth : Method} {c : Code} {D : va_G} {dA : Nat → ClassId} {o : Nat → Nat} {A : Nat → Prop} {post : Int32 → CS → Prop} {T4 : Int32 → Int32 → CS → Prop} {T14 : Int32 → Int32 → Int32 → CS → Prop} (C : cC RX0 p m c cX0_openOnes 4 s args meth (Option.some Jvm.ClassFile.FieldType.int) A) (hT4 : ∀ (x1 : Int32) (x2 : Int32) (S : CS), T4 x1 x2 S → ∀ (H : Heap) (locs : List Loc) (ls : Array Slot), lv_has ls 4 [(0, .ref (o 0)), (1, .int x1), (2, .int x2)] → cw D dA o A s S H locs → W p l e (rC_openOnes) s m args below meth c H locs 0 0 (cQi below args s D dA o A (rC_openOnes) post) (F0 m 4 ls [])) (hT14 : ∀ (x1 : Int32) (x2 : Int32) (x3 : Int32) (S : CS), T14 x1 x2 x3 S → ∀ (H : Heap) (locs : List Loc) (ls : Array Slot), lv_has ls 4 [(0, .ref (o 0)), (1, .int x1), (2, .int x2), (3, .int x3)] → cw D dA o A s S H locs → W p l e (rC_openOnes) s m args below meth c H locs 0 0 (cQi below args s D dA o A (rC_openOnes) post) (F0 m 14 ls [])) {v0 : Int32} {v1 : Int32} {x2 : Int32} {x3 : Int32} {S : CS} (h : C_openOnes_w36 post T4 T14 v0 v1 x2 x3 S) {H : Heap} {locs : List Loc} {ls : Array Slot} (hl : lv_has ls 4 [(0, .ref (o 0)), (2, .int x2), (3, .int x3)]) (w : cw D dA o A s S H locs) : W p l e (rC_openOnes) s m args below meth c H locs 0 0 (cQi below args s D dA o A (rC_openOnes) post) (F0 m 36 ls [.int v0, .int v1]) := by
  unfold C_openOnes_w36 at h
  obtain ⟨⟨hx, hb, hml, hown, hts⟩, hr, hlk, hA⟩ := id C
  refine lv_iadd hx hb dX0_openOnes_36 ?_
  refine lv_istore_n (lv' := [(1, .int _), (0, .ref _), (2, .int _), (3, .int _)]) hx hb dX0_openOnes_37 rfl hl (by decide) rfl (fun ls hl => ?_)
  refine lv_iinc (v := _ + (1 : Int32)) (lv' := [(3, .int _), (1, .int _), (0, .ref _), (2, .int _)]) hx hb dX0_openOnes_38 hl (k := 3) rfl rfl (by decide) rfl (fun ls hl => ?_)
  refine lv_goto (tgt := 14) hx hb dX0_openOnes_41 (by decide) ?_
  exact hT14 _ _ _ _ h _ _ _ (lv_sub hl [2, 1, 3, 0] rfl) w
def C_openOnes_w14 (post : Int32 → CS → Prop) (T4 : Int32 → Int32 → CS → Prop) (T14 : Int32 → Int32 → Int32 → CS → Prop) (x1 : Int32) (x2 : Int32) (x3 : Int32) (S : CS) : Prop :=
  (((4 : Int32) ≤ x3 → T4 x1 (x2 + (1 : Int32)) S) ∧ (¬ (4 : Int32) ≤ x3 → (vp_in x2 3 ∧ (vp_in x3 4 ∧ ((∀ g2 : Nat, (kGl S ((x2).toNatClampNeg) (x3).toNatClampNeg) = some g2 → C_openOnes_w36 post T4 T14 (0 : Int32) x1 x2 x3 S) ∧ ((kGl S ((x2).toNatClampNeg) (x3).toNatClampNeg) = none → C_openOnes_w36 post T4 T14 (1 : Int32) x1 x2 x3 S))))))
set_option maxHeartbeats 4000000 in
set_option maxRecDepth 100000 in
theorem C_openOnes_a14 {p : Program} {l : Launch} {e : Env} {s : State} {m : MethodId} {args : Array Value} {below : List Frame} {meth : Method} {c : Code} {D : va_G} {dA : Nat → ClassId} {o : Nat → Nat} {A : Nat → Prop} {post : Int32 → CS → Prop} {T4 : Int32 → Int32 → CS → Prop} {T14 : Int32 → Int32 → Int32 → CS → Prop} (C : cC RX0 p m c cX0_openOnes 4 s args meth (Option.some Jvm.ClassFile.FieldType.int) A) (hT4 : ∀ (x1 : Int32) (x2 : Int32) (S : CS), T4 x1 x2 S → ∀ (H : Heap) (locs : List Loc) (ls : Array Slot), lv_has ls 4 [(0, .ref (o 0)), (1, .int x1), (2, .int x2)] → cw D dA o A s S H locs → W p l e (rC_openOnes) s m args below meth c H locs 0 0 (cQi below args s D dA o A (rC_openOnes) post) (F0 m 4 ls [])) (hT14 : ∀ (x1 : Int32) (x2 : Int32) (x3 : Int32) (S : CS), T14 x1 x2 x3 S → ∀ (H : Heap) (locs : List Loc) (ls : Array Slot), lv_has ls 4 [(0, .ref (o 0)), (1, .int x1), (2, .int x2), (3, .int x3)] → cw D dA o A s S H locs → W p l e (rC_openOnes) s m args below meth c H locs 0 0 (cQi below args s D dA o A (rC_openOnes) post) (F0 m 14 ls [])) {x1 : Int32} {x2 : Int32} {x3 : Int32} {S : CS} (h : C_openOnes_w14 post T4 T14 x1 x2 x3 S) {H : Heap} {locs : List Loc} {ls : Array Slot} (hl : lv_has ls 4 [(0, .ref (o 0)), (1, .int x1), (2, .int x2), (3, .int x3)]) (w : cw D dA o A s S H locs) : W p l e (rC_openOnes) s m args below meth c H locs 0 0 (cQi below args s D dA o A (rC_openOnes) post) (F0 m 14 ls []) := by
  unfold C_openOnes_w14 at h
  obtain ⟨⟨hx, hb, hml, hown, hts⟩, hr, hlk, hA⟩ := id C
  refine lv_iload_n hx hb dX0_openOnes_14 rfl (lv_at hl 3 rfl) ?_
  refine lv_iconst (v := 4) hx hb dX0_openOnes_15 (by decide) ?_
  obtain ⟨h1, h2⟩ := h
  refine lv_icmp_ge (tgt := 44) hx hb dX0_openOnes_16 (by decide) (fun c1 => ?_) (fun c1 => ?_)
  · have h := h1 c1
    refine lv_iinc (v := _ + (1 : Int32)) (lv' := [(2, .int _), (0, .ref _), (1, .int _), (3, .int _)]) hx hb dX0_openOnes_44 hl (k := 2) rfl rfl (by decide) rfl (fun ls hl => ?_)
    refine lv_goto (tgt := 4) hx hb dX0_openOnes_47 (by decide) ?_
    exact hT4 _ _ _ h _ _ _ (lv_sub hl [1, 2, 0] rfl) w
  · have h := h2 c1
    refine lv_iload_n hx hb dX0_openOnes_19 rfl (lv_at hl 1 rfl) ?_
    refine lv_aload_n hx hb dX0_openOnes_20 rfl (lv_at hl 0 rfl) ?_
    refine cr_get C w 0 rfl rfl in_X0 0 (by decide) q162 rfl rfl dX0_openOnes_21 ?_
    refine lv_iload_n hx hb dX0_openOnes_24 rfl (lv_at hl 2 rfl) ?_
    obtain ⟨hi, h⟩ := h
    have hj1 := vp_lt hi
    refine cr_gout C w hi dX0_openOnes_25 ?_
    refine lv_iload_n hx hb dX0_openOnes_26 rfl (lv_at hl 3 rfl) ?_
    obtain ⟨hi, h⟩ := h
    refine cr_gin C w hj1 hi dX0_openOnes_27 ?_
    obtain ⟨h1, h2⟩ := h
    refine lv_ifnonnullQ (tgt := 35) hx hb dX0_openOnes_28 (by decide) (fun g2 c1 => ?_) (fun c1 => ?_)
    · have h := h1 g2 c1
      refine lv_iconst (v := 0) hx hb dX0_openOnes_35 (by decide) ?_
      exact C_openOnes_a36 C hT4 hT14 h (lv_sub hl [0, 2, 3] rfl) w
    · have h := h2 c1
      refine lv_iconst (v := 1) hx hb dX0_openOnes_31 (by decide) ?_
      refine lv_goto (tgt := 36) hx hb dX0_openOnes_32 (by decide) ?_
      exact C_openOnes_a36 C hT4 hT14 h (lv_sub hl [0, 2, 3] rfl) w
def C_openOnes_w4 (post : Int32 → CS → Prop) (T4 : Int32 → Int32 → CS → Prop) (T14 : Int32 → Int32 → Int32 → CS → Prop) (x1 : Int32) (x2 : Int32) (S : CS) : Prop :=
  (((kF S 1) ≤ x2 → post x1 S) ∧ (¬ (kF S 1) ≤ x2 → T14 x1 x2 (0 : Int32) S))
set_option maxHeartbeats 4000000 in
set_option maxRecDepth 100000 in
theorem C_openOnes_a4 {p : Program} {l : Launch} {e : Env} {s : State} {m : MethodId} {args : Array Value} {below : List Frame} {meth : Method} {c : Code} {D : va_G} {dA : Nat → ClassId} {o : Nat → Nat} {A : Nat → Prop} {post : Int32 → CS → Prop} {T4 : Int32 → Int32 → CS → Prop} {T14 : Int32 → Int32 → Int32 → CS → Prop} (C : cC RX0 p m c cX0_openOnes 4 s args meth (Option.some Jvm.ClassFile.FieldType.int) A) (hT4 : ∀ (x1 : Int32) (x2 : Int32) (S : CS), T4 x1 x2 S → ∀ (H : Heap) (locs : List Loc) (ls : Array Slot), lv_has ls 4 [(0, .ref (o 0)), (1, .int x1), (2, .int x2)] → cw D dA o A s S H locs → W p l e (rC_openOnes) s m args below meth c H locs 0 0 (cQi below args s D dA o A (rC_openOnes) post) (F0 m 4 ls [])) (hT14 : ∀ (x1 : Int32) (x2 : Int32) (x3 : Int32) (S : CS), T14 x1 x2 x3 S → ∀ (H : Heap) (locs : List Loc) (ls : Array Slot), lv_has ls 4 [(0, .ref (o 0)), (1, .int x1), (2, .int x2), (3, .int x3)] → cw D dA o A s S H locs → W p l e (rC_openOnes) s m args below meth c H locs 0 0 (cQi below args s D dA o A (rC_openOnes) post) (F0 m 14 ls [])) {x1 : Int32} {x2 : Int32} {S : CS} (h : C_openOnes_w4 post T4 T14 x1 x2 S) {H : Heap} {locs : List Loc} {ls : Array Slot} (hl : lv_has ls 4 [(0, .ref (o 0)), (1, .int x1), (2, .int x2)]) (w : cw D dA o A s S H locs) : W p l e (rC_openOnes) s m args below meth c H locs 0 0 (cQi below args s D dA o A (rC_openOnes) post) (F0 m 4 ls []) := by
  unfold C_openOnes_w4 at h
  obtain ⟨⟨hx, hb, hml, hown, hts⟩, hr, hlk, hA⟩ := id C
  refine lv_iload_n hx hb dX0_openOnes_4 rfl (lv_at hl 2 rfl) ?_
  refine lv_aload_n hx hb dX0_openOnes_5 rfl (lv_at hl 0 rfl) ?_
  refine cr_get C w 0 rfl rfl in_X0 1 (by decide) q164 rfl rfl dX0_openOnes_6 ?_
  obtain ⟨h1, h2⟩ := h
  refine lv_icmp_ge (tgt := 50) hx hb dX0_openOnes_9 (by decide) (fun c1 => ?_) (fun c1 => ?_)
  · have h := h1 c1
    refine lv_iload_n hx hb dX0_openOnes_50 rfl (lv_at hl 1 rfl) ?_
    exact cr_iret C w h (Nat.le_of_ble_eq_true rfl) (Nat.le_of_ble_eq_true rfl) dX0_openOnes_51
  · have h := h2 c1
    refine lv_iconst (v := 0) hx hb dX0_openOnes_12 (by decide) ?_
    refine lv_istore_n (lv' := [(3, .int _), (0, .ref _), (1, .int _), (2, .int _)]) hx hb dX0_openOnes_13 rfl hl (by decide) rfl (fun ls hl => ?_)
    exact hT14 _ _ _ _ h _ _ _ (lv_sub hl [1, 2, 3, 0] rfl) w
def C_openOnes_w0 (post : Int32 → CS → Prop) (T4 : Int32 → Int32 → CS → Prop) (T14 : Int32 → Int32 → Int32 → CS → Prop) (S : CS) : Prop :=
  T4 (0 : Int32) (0 : Int32) S
set_option maxHeartbeats 4000000 in
set_option maxRecDepth 100000 in
theorem C_openOnes_a0 {p : Program} {l : Launch} {e : Env} {s : State} {m : MethodId} {args : Array Value} {below : List Frame} {meth : Method} {c : Code} {D : va_G} {dA : Nat → ClassId} {o : Nat → Nat} {A : Nat → Prop} {post : Int32 → CS → Prop} {T4 : Int32 → Int32 → CS → Prop} {T14 : Int32 → Int32 → Int32 → CS → Prop} (C : cC RX0 p m c cX0_openOnes 4 s args meth (Option.some Jvm.ClassFile.FieldType.int) A) (hT4 : ∀ (x1 : Int32) (x2 : Int32) (S : CS), T4 x1 x2 S → ∀ (H : Heap) (locs : List Loc) (ls : Array Slot), lv_has ls 4 [(0, .ref (o 0)), (1, .int x1), (2, .int x2)] → cw D dA o A s S H locs → W p l e (rC_openOnes) s m args below meth c H locs 0 0 (cQi below args s D dA o A (rC_openOnes) post) (F0 m 4 ls [])) (hT14 : ∀ (x1 : Int32) (x2 : Int32) (x3 : Int32) (S : CS), T14 x1 x2 x3 S → ∀ (H : Heap) (locs : List Loc) (ls : Array Slot), lv_has ls 4 [(0, .ref (o 0)), (1, .int x1), (2, .int x2), (3, .int x3)] → cw D dA o A s S H locs → W p l e (rC_openOnes) s m args below meth c H locs 0 0 (cQi below args s D dA o A (rC_openOnes) post) (F0 m 14 ls [])) {S : CS} (h : C_openOnes_w0 post T4 T14 S) {H : Heap} {locs : List Loc} {ls : Array Slot} (hl : lv_has ls 4 [(0, .ref (o 0))]) (w : cw D dA o A s S H locs) : W p l e (rC_openOnes) s m args below meth c H locs 0 0 (cQi below args s D dA o A (rC_openOnes) post) (F0 m 0 ls []) := by
  unfold C_openOnes_w0 at h
  obtain ⟨⟨hx, hb, hml, hown, hts⟩, hr, hlk, hA⟩ := id C
  refine lv_iconst (v := 0) hx hb dX0_openOnes_0 (by decide) ?_
  refine lv_istore_n (lv' := [(1, .int _), (0, .ref _)]) hx hb dX0_openOnes_1 rfl hl (by decide) rfl (fun ls hl => ?_)
  refine lv_iconst (v := 0) hx hb dX0_openOnes_2 (by decide) ?_
  refine lv_istore_n (lv' := [(2, .int _), (1, .int _), (0, .ref _)]) hx hb dX0_openOnes_3 rfl hl (by decide) rfl (fun ls hl => ?_)
  exact hT4 _ _ _ h _ _ _ (lv_sub hl [2, 1, 0] rfl) w
def C_openOnes_VC (S : CS) (post : Int32 → CS → Prop) : Prop := ∀ (T4 : Int32 → Int32 → CS → Prop) (T14 : Int32 → Int32 → Int32 → CS → Prop), (∀ (x1 : Int32) (x2 : Int32) (S : CS), C_openOnes_w4 post T4 T14 x1 x2 S → T4 x1 x2 S) → (∀ (x1 : Int32) (x2 : Int32) (x3 : Int32) (S : CS), C_openOnes_w14 post T4 T14 x1 x2 x3 S → T14 x1 x2 x3 S) → C_openOnes_w0 post T4 T14 S
theorem C_openOnes_ok {S : CS} {post : Int32 → CS → Prop} (h : C_openOnes_VC S post) : C_openOnes S post := by
  intro l D dA o sz
  refine cr_start (fun A => va_Qi post (cB D dA o A) A) rfl (Nat.le_of_ble_eq_true rfl) (by decide) ?_
  intro p e s m args below meth c ls A C w hl
  have hl : lv_has ls 4 [(0, .ref (o 0))] := hl
  have h := h (fun (x1 : Int32) (x2 : Int32) S => ∀ (H : Heap) (locs : List Loc) (ls : Array Slot), lv_has ls 4 [(0, .ref (o 0)), (1, .int x1), (2, .int x2)] → cw D dA o A s S H locs → W p l e (rC_openOnes) s m args below meth c H locs 0 0 (cQi below args s D dA o A (rC_openOnes) post) (F0 m 4 ls [])) (fun (x1 : Int32) (x2 : Int32) (x3 : Int32) S => ∀ (H : Heap) (locs : List Loc) (ls : Array Slot), lv_has ls 4 [(0, .ref (o 0)), (1, .int x1), (2, .int x2), (3, .int x3)] → cw D dA o A s S H locs → W p l e (rC_openOnes) s m args below meth c H locs 0 0 (cQi below args s D dA o A (rC_openOnes) post) (F0 m 14 ls [])) (fun _ _ S h H locs ls hl w => C_openOnes_a4 C (fun _ _ _ h => h) (fun _ _ _ _ h => h) h hl w) (fun _ _ _ S h H locs ls hl w => C_openOnes_a14 C (fun _ _ _ h => h) (fun _ _ _ _ h => h) h hl w)
  exact C_openOnes_a0 C (fun _ _ _ h => h) (fun _ _ _ _ h => h) h (lv_sub hl [0] rfl) w

/-! ThirdSheets.pairs()I -/
def C_pairs_w0 (post : Int32 → CS → Prop) (S : CS) : Prop :=
  C_openOnes S (fun (r1 : Int32) (S1 : CS) => post ((((4 : Int32) * (kF S 1)) - r1) / (2 : Int32)) S1)
set_option maxHeartbeats 4000000 in
set_option maxRecDepth 100000 in
theorem C_pairs_a0 {p : Program} {l : Launch} {e : Env} {s : State} {m : MethodId} {args : Array Value} {below : List Frame} {meth : Method} {c : Code} {D : va_G} {dA : Nat → ClassId} {o : Nat → Nat} {A : Nat → Prop} {post : Int32 → CS → Prop} (C : cC RX0 p m c cX0_pairs 1 s args meth (Option.some Jvm.ClassFile.FieldType.int) A) {S : CS} (h : C_pairs_w0 post S) {H : Heap} {locs : List Loc} {ls : Array Slot} (hl : lv_has ls 1 [(0, .ref (o 0))]) (w : cw D dA o A s S H locs) : W p l e (rC_pairs) s m args below meth c H locs 0 0 (cQi below args s D dA o A (rC_pairs) post) (F0 m 0 ls []) := by
  unfold C_pairs_w0 at h
  obtain ⟨⟨hx, hb, hml, hown, hts⟩, hr, hlk, hA⟩ := id C
  refine lv_iconst (v := 4) hx hb dX0_pairs_0 (by decide) ?_
  refine lv_aload_n hx hb dX0_pairs_1 rfl (lv_at hl 0 rfl) ?_
  refine cr_get C w 0 rfl rfl in_X0 1 (by decide) q164 rfl rfl dX0_pairs_2 ?_
  refine lv_imul hx hb dX0_pairs_5 ?_
  refine lv_aload_n hx hb dX0_pairs_6 rfl (lv_at hl 0 rfl) ?_
  refine cr_callVI (rest := [.int _]) (b := (fun o => o 0)) C w h (recv0 w) (cwV 0 hts (lw_V q378 q380 qs5 q82 q381) rfl rfl rfl C_openOnes_d ⟨Nat.le_of_ble_eq_true rfl, Nat.le_of_ble_eq_true rfl⟩) rfl hl.1 rfl (Nat.le_of_ble_eq_true rfl) ⟨Nat.le_of_ble_eq_true rfl, Nat.le_of_ble_eq_true rfl⟩ dX0_pairs_7 (fun r1 S1 H locs h w => ?_)
  refine lv_isub hx hb dX0_pairs_10 ?_
  refine lv_iconst (v := 2) hx hb dX0_pairs_11 (by decide) ?_
  refine lv_idiv hx hb dX0_pairs_12 (by decide) ?_
  exact cr_iret C w h (Nat.le_of_ble_eq_true rfl) (Nat.le_of_ble_eq_true rfl) dX0_pairs_13
def C_pairs_VC (S : CS) (post : Int32 → CS → Prop) : Prop := C_pairs_w0 post S
theorem C_pairs_ok {S : CS} {post : Int32 → CS → Prop} (h : C_pairs_VC S post) : C_pairs S post := by
  intro l D dA o sz
  refine cr_start (fun A => va_Qi post (cB D dA o A) A) rfl (Nat.le_of_ble_eq_true rfl) (by decide) ?_
  intro p e s m args below meth c ls A C w hl
  have hl : lv_has ls 1 [(0, .ref (o 0))] := hl
  exact C_pairs_a0 C h (lv_sub hl [0] rfl) w

/-! ThirdSheets.hasBent()Z -/
def C_hasBent_w41 (post : Int32 → CS → Prop) (T12 : Int32 → Int32 → Int32 → CS → Prop) (x2 : Int32) (S : CS) : Prop :=
  (zok x2 ∧ post x2 S)
set_option maxHeartbeats 4000000 in
set_option maxRecDepth 100000 in
theorem C_hasBent_a41 {p : Program} {l : Launch} {e : Env} {s : State} {m : MethodId} {args : Array Value} {below : List Frame} {meth : Method} {c : Code} {D : va_G} {dA : Nat → ClassId} {o : Nat → Nat} {A : Nat → Prop} {post : Int32 → CS → Prop} {T12 : Int32 → Int32 → Int32 → CS → Prop} (C : cC RX0 p m c cX0_hasBent 4 s args meth (Option.some Jvm.ClassFile.FieldType.boolean) A) (hT12 : ∀ (x1 : Int32) (x2 : Int32) (x3 : Int32) (S : CS), T12 x1 x2 x3 S → ∀ (H : Heap) (locs : List Loc) (ls : Array Slot), lv_has ls 4 [(0, .ref (o 0)), (1, .int x1), (2, .int x2), (3, .int x3)] → cw D dA o A s S H locs → W p l e (rC_hasBent) s m args below meth c H locs 0 0 (cQi below args s D dA o A (rC_hasBent) post) (F0 m 12 ls [])) {x2 : Int32} {S : CS} (h : C_hasBent_w41 post T12 x2 S) {H : Heap} {locs : List Loc} {ls : Array Slot} (hl : lv_has ls 4 [(0, .ref (o 0)), (2, .int x2)]) (w : cw D dA o A s S H locs) : W p l e (rC_hasBent) s m args below meth c H locs 0 0 (cQi below args s D dA o A (rC_hasBent) post) (F0 m 41 ls []) := by
  unfold C_hasBent_w41 at h
  obtain ⟨⟨hx, hb, hml, hown, hts⟩, hr, hlk, hA⟩ := id C
  refine lv_iload_n hx hb dX0_hasBent_41 rfl (lv_at hl 1 rfl) ?_
  exact cr_zret C w (zok_n h.1) h.2 (Nat.le_of_ble_eq_true rfl) (Nat.le_of_ble_eq_true rfl) dX0_hasBent_42
def C_hasBent_w12 (post : Int32 → CS → Prop) (T12 : Int32 → Int32 → Int32 → CS → Prop) (x1 : Int32) (x2 : Int32) (x3 : Int32) (S : CS) : Prop :=
  ((x1 ≤ x3 → C_hasBent_w41 post T12 x2 S) ∧ (¬ x1 ≤ x3 → C_findS4 S (fun (r1 : Int32) (S1 : CS) => ((r1 ≤ 0 → C_hasBent_w41 post T12 x2 S1) ∧ (¬ r1 ≤ 0 → C_isBent x3 S1 (fun (r2 : Int32) (S2 : CS) => T12 x1 (x2 ||| r2) (x3 + (1 : Int32)) S2))))))
set_option maxHeartbeats 4000000 in
set_option maxRecDepth 100000 in
theorem C_hasBent_a12 {p : Program} {l : Launch} {e : Env} {s : State} {m : MethodId} {args : Array Value} {below : List Frame} {meth : Method} {c : Code} {D : va_G} {dA : Nat → ClassId} {o : Nat → Nat} {A : Nat → Prop} {post : Int32 → CS → Prop} {T12 : Int32 → Int32 → Int32 → CS → Prop} (C : cC RX0 p m c cX0_hasBent 4 s args meth (Option.some Jvm.ClassFile.FieldType.boolean) A) (hT12 : ∀ (x1 : Int32) (x2 : Int32) (x3 : Int32) (S : CS), T12 x1 x2 x3 S → ∀ (H : Heap) (locs : List Loc) (ls : Array Slot), lv_has ls 4 [(0, .ref (o 0)), (1, .int x1), (2, .int x2), (3, .int x3)] → cw D dA o A s S H locs → W p l e (rC_hasBent) s m args below meth c H locs 0 0 (cQi below args s D dA o A (rC_hasBent) post) (F0 m 12 ls [])) {x1 : Int32} {x2 : Int32} {x3 : Int32} {S : CS} (h : C_hasBent_w12 post T12 x1 x2 x3 S) {H : Heap} {locs : List Loc} {ls : Array Slot} (hl : lv_has ls 4 [(0, .ref (o 0)), (1, .int x1), (2, .int x2), (3, .int x3)]) (w : cw D dA o A s S H locs) : W p l e (rC_hasBent) s m args below meth c H locs 0 0 (cQi below args s D dA o A (rC_hasBent) post) (F0 m 12 ls []) := by
  unfold C_hasBent_w12 at h
  obtain ⟨⟨hx, hb, hml, hown, hts⟩, hr, hlk, hA⟩ := id C
  refine lv_iload_n hx hb dX0_hasBent_12 rfl (lv_at hl 3 rfl) ?_
  refine lv_iload_n hx hb dX0_hasBent_13 rfl (lv_at hl 1 rfl) ?_
  obtain ⟨h1, h2⟩ := h
  refine lv_icmp_ge (tgt := 41) hx hb dX0_hasBent_14 (by decide) (fun c1 => ?_) (fun c1 => ?_)
  · have h := h1 c1
    exact C_hasBent_a41 C hT12 h (lv_sub hl [0, 2] rfl) w
  · have h := h2 c1
    refine lv_aload_n hx hb dX0_hasBent_17 rfl (lv_at hl 0 rfl) ?_
    refine cr_get C w 0 rfl rfl in_X0 4 (by decide) q168 rfl rfl dX0_hasBent_18 ?_
    refine cr_callUI (owner := RX1) (rest := []) (b := fun o => o 4) C w h (recv4 w) (va_cwU 0 hts (lw_U q342 q343 q344 q293 q83 q294) rfl rfl rfl rfl (by decide +kernel) ⟨Nat.le_of_ble_eq_true rfl, Nat.le_of_ble_eq_true rfl⟩) rfl hl.1 rfl (Nat.le_of_ble_eq_true rfl) ⟨Nat.le_of_ble_eq_true rfl, Nat.le_of_ble_eq_true rfl⟩ dX0_hasBent_21 (fun r1 S1 H locs h w => ?_)
    obtain ⟨h1, h2⟩ := h
    refine lv_if_le (tgt := 41) hx hb dX0_hasBent_24 (by decide) (fun c1 => ?_) (fun c1 => ?_)
    · have h := h1 c1
      exact C_hasBent_a41 C hT12 h (lv_sub hl [0, 2] rfl) w
    · have h := h2 c1
      refine lv_iload_n hx hb dX0_hasBent_27 rfl (lv_at hl 2 rfl) ?_
      refine lv_aload_n hx hb dX0_hasBent_28 rfl (lv_at hl 0 rfl) ?_
      refine lv_iload_n hx hb dX0_hasBent_29 rfl (lv_at hl 3 rfl) ?_
      refine cr_callVI (rest := [.int _]) (b := (fun o => o 0)) C w h (recv0 w) (cwV 1 hts (lw_V q345 q347 qs2 q82 q348) rfl rfl rfl C_isBent_d ⟨Nat.le_of_ble_eq_true rfl, Nat.le_of_ble_eq_true rfl⟩) rfl hl.1 rfl (Nat.le_of_ble_eq_true rfl) ⟨Nat.le_of_ble_eq_true rfl, Nat.le_of_ble_eq_true rfl⟩ dX0_hasBent_30 (fun r2 S2 H locs h w => ?_)
      refine lv_ior hx hb dX0_hasBent_33 ?_
      refine lv_istore_n (lv' := [(2, .int _), (0, .ref _), (1, .int _), (3, .int _)]) hx hb dX0_hasBent_34 rfl hl (by decide) rfl (fun ls hl => ?_)
      refine lv_iinc (v := _ + (1 : Int32)) (lv' := [(3, .int _), (2, .int _), (0, .ref _), (1, .int _)]) hx hb dX0_hasBent_35 hl (k := 3) rfl rfl (by decide) rfl (fun ls hl => ?_)
      refine lv_goto (tgt := 12) hx hb dX0_hasBent_38 (by decide) ?_
      exact hT12 _ _ _ _ h _ _ _ (lv_sub hl [2, 3, 1, 0] rfl) w
def C_hasBent_w0 (post : Int32 → CS → Prop) (T12 : Int32 → Int32 → Int32 → CS → Prop) (S : CS) : Prop :=
  C_findS3 S (fun (r1 : Int32) (S1 : CS) => T12 r1 (0 : Int32) (0 : Int32) S1)
set_option maxHeartbeats 4000000 in
set_option maxRecDepth 100000 in
theorem C_hasBent_a0 {p : Program} {l : Launch} {e : Env} {s : State} {m : MethodId} {args : Array Value} {below : List Frame} {meth : Method} {c : Code} {D : va_G} {dA : Nat → ClassId} {o : Nat → Nat} {A : Nat → Prop} {post : Int32 → CS → Prop} {T12 : Int32 → Int32 → Int32 → CS → Prop} (C : cC RX0 p m c cX0_hasBent 4 s args meth (Option.some Jvm.ClassFile.FieldType.boolean) A) (hT12 : ∀ (x1 : Int32) (x2 : Int32) (x3 : Int32) (S : CS), T12 x1 x2 x3 S → ∀ (H : Heap) (locs : List Loc) (ls : Array Slot), lv_has ls 4 [(0, .ref (o 0)), (1, .int x1), (2, .int x2), (3, .int x3)] → cw D dA o A s S H locs → W p l e (rC_hasBent) s m args below meth c H locs 0 0 (cQi below args s D dA o A (rC_hasBent) post) (F0 m 12 ls [])) {S : CS} (h : C_hasBent_w0 post T12 S) {H : Heap} {locs : List Loc} {ls : Array Slot} (hl : lv_has ls 4 [(0, .ref (o 0))]) (w : cw D dA o A s S H locs) : W p l e (rC_hasBent) s m args below meth c H locs 0 0 (cQi below args s D dA o A (rC_hasBent) post) (F0 m 0 ls []) := by
  unfold C_hasBent_w0 at h
  obtain ⟨⟨hx, hb, hml, hown, hts⟩, hr, hlk, hA⟩ := id C
  refine lv_aload_n hx hb dX0_hasBent_0 rfl (lv_at hl 0 rfl) ?_
  refine cr_get C w 0 rfl rfl in_X0 3 (by decide) q167 rfl rfl dX0_hasBent_1 ?_
  refine cr_callUI (owner := RX1) (rest := []) (b := fun o => o 3) C w h (recv3 w) (va_cwU 0 hts (lw_U q326 q327 q328 q293 q83 q294) rfl rfl rfl rfl (by decide +kernel) ⟨Nat.le_of_ble_eq_true rfl, Nat.le_of_ble_eq_true rfl⟩) rfl hl.1 rfl (Nat.le_of_ble_eq_true rfl) ⟨Nat.le_of_ble_eq_true rfl, Nat.le_of_ble_eq_true rfl⟩ dX0_hasBent_4 (fun r1 S1 H locs h w => ?_)
  refine lv_istore_n (lv' := [(1, .int _), (0, .ref _)]) hx hb dX0_hasBent_7 rfl hl (by decide) rfl (fun ls hl => ?_)
  refine lv_iconst (v := 0) hx hb dX0_hasBent_8 (by decide) ?_
  refine lv_istore_n (lv' := [(2, .int _), (1, .int _), (0, .ref _)]) hx hb dX0_hasBent_9 rfl hl (by decide) rfl (fun ls hl => ?_)
  refine lv_iconst (v := 0) hx hb dX0_hasBent_10 (by decide) ?_
  refine lv_istore_n (lv' := [(3, .int _), (2, .int _), (1, .int _), (0, .ref _)]) hx hb dX0_hasBent_11 rfl hl (by decide) rfl (fun ls hl => ?_)
  exact hT12 _ _ _ _ h _ _ _ (lv_sub hl [3, 2, 1, 0] rfl) w
def C_hasBent_VC (S : CS) (post : Int32 → CS → Prop) : Prop := ∀ (T12 : Int32 → Int32 → Int32 → CS → Prop), (∀ (x1 : Int32) (x2 : Int32) (x3 : Int32) (S : CS), C_hasBent_w12 post T12 x1 x2 x3 S → T12 x1 x2 x3 S) → C_hasBent_w0 post T12 S
theorem C_hasBent_ok {S : CS} {post : Int32 → CS → Prop} (h : C_hasBent_VC S post) : C_hasBent S post := by
  intro l D dA o sz
  refine cr_start (fun A => va_Qi post (cB D dA o A) A) rfl (Nat.le_of_ble_eq_true rfl) (by decide) ?_
  intro p e s m args below meth c ls A C w hl
  have hl : lv_has ls 4 [(0, .ref (o 0))] := hl
  have h := h (fun (x1 : Int32) (x2 : Int32) (x3 : Int32) S => ∀ (H : Heap) (locs : List Loc) (ls : Array Slot), lv_has ls 4 [(0, .ref (o 0)), (1, .int x1), (2, .int x2), (3, .int x3)] → cw D dA o A s S H locs → W p l e (rC_hasBent) s m args below meth c H locs 0 0 (cQi below args s D dA o A (rC_hasBent) post) (F0 m 12 ls [])) (fun _ _ _ S h H locs ls hl w => C_hasBent_a12 C (fun _ _ _ _ h => h) h hl w)
  exact C_hasBent_a0 C (fun _ _ _ _ h => h) h (lv_sub hl [0] rfl) w

/-! ThirdSheets.isWhole()Z -/
def C_isWhole_w67 (post : Int32 → CS → Prop) (T37 : Int32 → Int32 → Int32 → CS → Prop) (x1 : Int32) (S : CS) : Prop :=
  (zok x1 ∧ post x1 S)
set_option maxHeartbeats 4000000 in
set_option maxRecDepth 100000 in
theorem C_isWhole_a67 {p : Program} {l : Launch} {e : Env} {s : State} {m : MethodId} {args : Array Value} {below : List Frame} {meth : Method} {c : Code} {D : va_G} {dA : Nat → ClassId} {o : Nat → Nat} {A : Nat → Prop} {post : Int32 → CS → Prop} {T37 : Int32 → Int32 → Int32 → CS → Prop} (C : cC RX0 p m c cX0_isWhole 4 s args meth (Option.some Jvm.ClassFile.FieldType.boolean) A) (hT37 : ∀ (x1 : Int32) (x2 : Int32) (x3 : Int32) (S : CS), T37 x1 x2 x3 S → ∀ (H : Heap) (locs : List Loc) (ls : Array Slot), lv_has ls 4 [(0, .ref (o 0)), (1, .int x1), (2, .int x2), (3, .int x3)] → cw D dA o A s S H locs → W p l e (rC_isWhole) s m args below meth c H locs 0 0 (cQi below args s D dA o A (rC_isWhole) post) (F0 m 37 ls [])) {x1 : Int32} {S : CS} (h : C_isWhole_w67 post T37 x1 S) {H : Heap} {locs : List Loc} {ls : Array Slot} (hl : lv_has ls 4 [(0, .ref (o 0)), (1, .int x1)]) (w : cw D dA o A s S H locs) : W p l e (rC_isWhole) s m args below meth c H locs 0 0 (cQi below args s D dA o A (rC_isWhole) post) (F0 m 67 ls []) := by
  unfold C_isWhole_w67 at h
  obtain ⟨⟨hx, hb, hml, hown, hts⟩, hr, hlk, hA⟩ := id C
  refine lv_iload_n hx hb dX0_isWhole_67 rfl (lv_at hl 1 rfl) ?_
  exact cr_zret C w (zok_n h.1) h.2 (Nat.le_of_ble_eq_true rfl) (Nat.le_of_ble_eq_true rfl) dX0_isWhole_68
def C_isWhole_w60 (post : Int32 → CS → Prop) (T37 : Int32 → Int32 → Int32 → CS → Prop) (v0 : Int32) (x2 : Int32) (x3 : Int32) (S : CS) : Prop :=
  T37 v0 x2 (x3 + (1 : Int32)) S
set_option maxHeartbeats 4000000 in
set_option maxRecDepth 100000 in
theorem C_isWhole_a60 {p : Program} {l : Launch} {e : Env} {s : State} {m : MethodId} {args : Array Value} {below : List Frame} {meth : Method} {c : Code} {D : va_G} {dA : Nat → ClassId} {o : Nat → Nat} {A : Nat → Prop} {post : Int32 → CS → Prop} {T37 : Int32 → Int32 → Int32 → CS → Prop} (C : cC RX0 p m c cX0_isWhole 4 s args meth (Option.some Jvm.ClassFile.FieldType.boolean) A) (hT37 : ∀ (x1 : Int32) (x2 : Int32) (x3 : Int32) (S : CS), T37 x1 x2 x3 S → ∀ (H : Heap) (locs : List Loc) (ls : Array Slot), lv_has ls 4 [(0, .ref (o 0)), (1, .int x1), (2, .int x2), (3, .int x3)] → cw D dA o A s S H locs → W p l e (rC_isWhole) s m args below meth c H locs 0 0 (cQi below args s D dA o A (rC_isWhole) post) (F0 m 37 ls [])) {v0 : Int32} {x2 : Int32} {x3 : Int32} {S : CS} (h : C_isWhole_w60 post T37 v0 x2 x3 S) {H : Heap} {locs : List Loc} {ls : Array Slot} (hl : lv_has ls 4 [(0, .ref (o 0)), (2, .int x2), (3, .int x3)]) (w : cw D dA o A s S H locs) : W p l e (rC_isWhole) s m args below meth c H locs 0 0 (cQi below args s D dA o A (rC_isWhole) post) (F0 m 60 ls [.int v0]) := by
  unfold C_isWhole_w60 at h
  obtain ⟨⟨hx, hb, hml, hown, hts⟩, hr, hlk, hA⟩ := id C
  refine lv_istore_n (lv' := [(1, .int _), (0, .ref _), (2, .int _), (3, .int _)]) hx hb dX0_isWhole_60 rfl hl (by decide) rfl (fun ls hl => ?_)
  refine lv_iinc (v := _ + (1 : Int32)) (lv' := [(3, .int _), (1, .int _), (0, .ref _), (2, .int _)]) hx hb dX0_isWhole_61 hl (k := 3) rfl rfl (by decide) rfl (fun ls hl => ?_)
  refine lv_goto (tgt := 37) hx hb dX0_isWhole_64 (by decide) ?_
  exact hT37 _ _ _ _ h _ _ _ (lv_sub hl [2, 1, 3, 0] rfl) w
def C_isWhole_w37 (post : Int32 → CS → Prop) (T37 : Int32 → Int32 → Int32 → CS → Prop) (x1 : Int32) (x2 : Int32) (x3 : Int32) (S : CS) : Prop :=
  ((x2 ≤ x3 → C_isWhole_w67 post T37 x1 S) ∧ (¬ x2 ≤ x3 → ((x1 = 0 → C_isWhole_w67 post T37 x1 S) ∧ (¬ x1 = 0 → C_linkOf x3 S (fun (r1 : Int32) (S1 : CS) => ((¬ r1 = (2 : Int32) → C_isWhole_w60 post T37 (0 : Int32) x2 x3 S1) ∧ (r1 = (2 : Int32) → C_isWhole_w60 post T37 (1 : Int32) x2 x3 S1)))))))
set_option maxHeartbeats 4000000 in
set_option maxRecDepth 100000 in
theorem C_isWhole_a37 {p : Program} {l : Launch} {e : Env} {s : State} {m : MethodId} {args : Array Value} {below : List Frame} {meth : Method} {c : Code} {D : va_G} {dA : Nat → ClassId} {o : Nat → Nat} {A : Nat → Prop} {post : Int32 → CS → Prop} {T37 : Int32 → Int32 → Int32 → CS → Prop} (C : cC RX0 p m c cX0_isWhole 4 s args meth (Option.some Jvm.ClassFile.FieldType.boolean) A) (hT37 : ∀ (x1 : Int32) (x2 : Int32) (x3 : Int32) (S : CS), T37 x1 x2 x3 S → ∀ (H : Heap) (locs : List Loc) (ls : Array Slot), lv_has ls 4 [(0, .ref (o 0)), (1, .int x1), (2, .int x2), (3, .int x3)] → cw D dA o A s S H locs → W p l e (rC_isWhole) s m args below meth c H locs 0 0 (cQi below args s D dA o A (rC_isWhole) post) (F0 m 37 ls [])) {x1 : Int32} {x2 : Int32} {x3 : Int32} {S : CS} (h : C_isWhole_w37 post T37 x1 x2 x3 S) {H : Heap} {locs : List Loc} {ls : Array Slot} (hl : lv_has ls 4 [(0, .ref (o 0)), (1, .int x1), (2, .int x2), (3, .int x3)]) (w : cw D dA o A s S H locs) : W p l e (rC_isWhole) s m args below meth c H locs 0 0 (cQi below args s D dA o A (rC_isWhole) post) (F0 m 37 ls []) := by
  unfold C_isWhole_w37 at h
  obtain ⟨⟨hx, hb, hml, hown, hts⟩, hr, hlk, hA⟩ := id C
  refine lv_iload_n hx hb dX0_isWhole_37 rfl (lv_at hl 3 rfl) ?_
  refine lv_iload_n hx hb dX0_isWhole_38 rfl (lv_at hl 2 rfl) ?_
  obtain ⟨h1, h2⟩ := h
  refine lv_icmp_ge (tgt := 67) hx hb dX0_isWhole_39 (by decide) (fun c1 => ?_) (fun c1 => ?_)
  · have h := h1 c1
    exact C_isWhole_a67 C hT37 h (lv_sub hl [0, 1] rfl) w
  · have h := h2 c1
    refine lv_iload_n hx hb dX0_isWhole_42 rfl (lv_at hl 1 rfl) ?_
    obtain ⟨h1, h2⟩ := h
    refine lv_if_eq (tgt := 67) hx hb dX0_isWhole_43 (by decide) (fun c1 => ?_) (fun c1 => ?_)
    · have h := h1 c1
      exact C_isWhole_a67 C hT37 h (lv_sub hl [0, 1] rfl) w
    · have h := h2 c1
      refine lv_aload_n hx hb dX0_isWhole_46 rfl (lv_at hl 0 rfl) ?_
      refine lv_iload_n hx hb dX0_isWhole_47 rfl (lv_at hl 3 rfl) ?_
      refine cr_callVI (rest := []) (b := (fun o => o 0)) C w h (recv0 w) (cwV 1 hts (lw_V q363 q365 qs3 q82 q366) rfl rfl rfl C_linkOf_d ⟨Nat.le_of_ble_eq_true rfl, Nat.le_of_ble_eq_true rfl⟩) rfl hl.1 rfl (Nat.le_of_ble_eq_true rfl) ⟨Nat.le_of_ble_eq_true rfl, Nat.le_of_ble_eq_true rfl⟩ dX0_isWhole_48 (fun r1 S1 H locs h w => ?_)
      refine lv_iconst (v := 2) hx hb dX0_isWhole_51 (by decide) ?_
      obtain ⟨h1, h2⟩ := h
      refine lv_icmp_ne (tgt := 59) hx hb dX0_isWhole_52 (by decide) (fun c1 => ?_) (fun c1 => ?_)
      · have h := h1 c1
        refine lv_iconst (v := 0) hx hb dX0_isWhole_59 (by decide) ?_
        exact C_isWhole_a60 C hT37 h (lv_sub hl [0, 2, 3] rfl) w
      · have h := h2 c1
        refine lv_iconst (v := 1) hx hb dX0_isWhole_55 (by decide) ?_
        refine lv_goto (tgt := 60) hx hb dX0_isWhole_56 (by decide) ?_
        exact C_isWhole_a60 C hT37 h (lv_sub hl [0, 2, 3] rfl) w
def C_isWhole_w26 (post : Int32 → CS → Prop) (T37 : Int32 → Int32 → Int32 → CS → Prop) (v0 : Int32) (S : CS) : Prop :=
  C_findS2 S (fun (r1 : Int32) (S1 : CS) => T37 v0 r1 (0 : Int32) S1)
set_option maxHeartbeats 4000000 in
set_option maxRecDepth 100000 in
theorem C_isWhole_a26 {p : Program} {l : Launch} {e : Env} {s : State} {m : MethodId} {args : Array Value} {below : List Frame} {meth : Method} {c : Code} {D : va_G} {dA : Nat → ClassId} {o : Nat → Nat} {A : Nat → Prop} {post : Int32 → CS → Prop} {T37 : Int32 → Int32 → Int32 → CS → Prop} (C : cC RX0 p m c cX0_isWhole 4 s args meth (Option.some Jvm.ClassFile.FieldType.boolean) A) (hT37 : ∀ (x1 : Int32) (x2 : Int32) (x3 : Int32) (S : CS), T37 x1 x2 x3 S → ∀ (H : Heap) (locs : List Loc) (ls : Array Slot), lv_has ls 4 [(0, .ref (o 0)), (1, .int x1), (2, .int x2), (3, .int x3)] → cw D dA o A s S H locs → W p l e (rC_isWhole) s m args below meth c H locs 0 0 (cQi below args s D dA o A (rC_isWhole) post) (F0 m 37 ls [])) {v0 : Int32} {S : CS} (h : C_isWhole_w26 post T37 v0 S) {H : Heap} {locs : List Loc} {ls : Array Slot} (hl : lv_has ls 4 [(0, .ref (o 0))]) (w : cw D dA o A s S H locs) : W p l e (rC_isWhole) s m args below meth c H locs 0 0 (cQi below args s D dA o A (rC_isWhole) post) (F0 m 26 ls [.int v0]) := by
  unfold C_isWhole_w26 at h
  obtain ⟨⟨hx, hb, hml, hown, hts⟩, hr, hlk, hA⟩ := id C
  refine lv_istore_n (lv' := [(1, .int _), (0, .ref _)]) hx hb dX0_isWhole_26 rfl hl (by decide) rfl (fun ls hl => ?_)
  refine lv_aload_n hx hb dX0_isWhole_27 rfl (lv_at hl 1 rfl) ?_
  refine cr_get C w 0 rfl rfl in_X0 2 (by decide) q166 rfl rfl dX0_isWhole_28 ?_
  refine cr_callUI (owner := RX1) (rest := []) (b := fun o => o 2) C w h (recv2 w) (va_cwU 0 hts (lw_U q289 q290 q292 q293 q83 q294) rfl rfl rfl rfl (by decide +kernel) ⟨Nat.le_of_ble_eq_true rfl, Nat.le_of_ble_eq_true rfl⟩) rfl hl.1 rfl (Nat.le_of_ble_eq_true rfl) ⟨Nat.le_of_ble_eq_true rfl, Nat.le_of_ble_eq_true rfl⟩ dX0_isWhole_31 (fun r1 S1 H locs h w => ?_)
  refine lv_istore_n (lv' := [(2, .int _), (1, .int _), (0, .ref _)]) hx hb dX0_isWhole_34 rfl hl (by decide) rfl (fun ls hl => ?_)
  refine lv_iconst (v := 0) hx hb dX0_isWhole_35 (by decide) ?_
  refine lv_istore_n (lv' := [(3, .int _), (2, .int _), (1, .int _), (0, .ref _)]) hx hb dX0_isWhole_36 rfl hl (by decide) rfl (fun ls hl => ?_)
  exact hT37 _ _ _ _ h _ _ _ (lv_sub hl [3, 2, 1, 0] rfl) w
def C_isWhole_w25 (post : Int32 → CS → Prop) (T37 : Int32 → Int32 → Int32 → CS → Prop) (S : CS) : Prop :=
  C_isWhole_w26 post T37 (0 : Int32) S
set_option maxHeartbeats 4000000 in
set_option maxRecDepth 100000 in
theorem C_isWhole_a25 {p : Program} {l : Launch} {e : Env} {s : State} {m : MethodId} {args : Array Value} {below : List Frame} {meth : Method} {c : Code} {D : va_G} {dA : Nat → ClassId} {o : Nat → Nat} {A : Nat → Prop} {post : Int32 → CS → Prop} {T37 : Int32 → Int32 → Int32 → CS → Prop} (C : cC RX0 p m c cX0_isWhole 4 s args meth (Option.some Jvm.ClassFile.FieldType.boolean) A) (hT37 : ∀ (x1 : Int32) (x2 : Int32) (x3 : Int32) (S : CS), T37 x1 x2 x3 S → ∀ (H : Heap) (locs : List Loc) (ls : Array Slot), lv_has ls 4 [(0, .ref (o 0)), (1, .int x1), (2, .int x2), (3, .int x3)] → cw D dA o A s S H locs → W p l e (rC_isWhole) s m args below meth c H locs 0 0 (cQi below args s D dA o A (rC_isWhole) post) (F0 m 37 ls [])) {S : CS} (h : C_isWhole_w25 post T37 S) {H : Heap} {locs : List Loc} {ls : Array Slot} (hl : lv_has ls 4 [(0, .ref (o 0))]) (w : cw D dA o A s S H locs) : W p l e (rC_isWhole) s m args below meth c H locs 0 0 (cQi below args s D dA o A (rC_isWhole) post) (F0 m 25 ls []) := by
  unfold C_isWhole_w25 at h
  obtain ⟨⟨hx, hb, hml, hown, hts⟩, hr, hlk, hA⟩ := id C
  refine lv_iconst (v := 0) hx hb dX0_isWhole_25 (by decide) ?_
  exact C_isWhole_a26 C hT37 h (lv_sub hl [0] rfl) w
def C_isWhole_w0 (post : Int32 → CS → Prop) (T37 : Int32 → Int32 → Int32 → CS → Prop) (S : CS) : Prop :=
  (((kF S 1) ≤ 0 → C_isWhole_w25 post T37 S) ∧ (¬ (kF S 1) ≤ 0 → C_openOnes S (fun (r1 : Int32) (S1 : CS) => ((¬ r1 = 0 → C_isWhole_w25 post T37 S1) ∧ (r1 = 0 → C_hasBent S1 (fun (r2 : Int32) (S2 : CS) => ((¬ r2 = 0 → C_isWhole_w25 post T37 S2) ∧ (r2 = 0 → C_isWhole_w26 post T37 (1 : Int32) S2))))))))
set_option maxHeartbeats 4000000 in
set_option maxRecDepth 100000 in
theorem C_isWhole_a0 {p : Program} {l : Launch} {e : Env} {s : State} {m : MethodId} {args : Array Value} {below : List Frame} {meth : Method} {c : Code} {D : va_G} {dA : Nat → ClassId} {o : Nat → Nat} {A : Nat → Prop} {post : Int32 → CS → Prop} {T37 : Int32 → Int32 → Int32 → CS → Prop} (C : cC RX0 p m c cX0_isWhole 4 s args meth (Option.some Jvm.ClassFile.FieldType.boolean) A) (hT37 : ∀ (x1 : Int32) (x2 : Int32) (x3 : Int32) (S : CS), T37 x1 x2 x3 S → ∀ (H : Heap) (locs : List Loc) (ls : Array Slot), lv_has ls 4 [(0, .ref (o 0)), (1, .int x1), (2, .int x2), (3, .int x3)] → cw D dA o A s S H locs → W p l e (rC_isWhole) s m args below meth c H locs 0 0 (cQi below args s D dA o A (rC_isWhole) post) (F0 m 37 ls [])) {S : CS} (h : C_isWhole_w0 post T37 S) {H : Heap} {locs : List Loc} {ls : Array Slot} (hl : lv_has ls 4 [(0, .ref (o 0))]) (w : cw D dA o A s S H locs) : W p l e (rC_isWhole) s m args below meth c H locs 0 0 (cQi below args s D dA o A (rC_isWhole) post) (F0 m 0 ls []) := by
  unfold C_isWhole_w0 at h
  obtain ⟨⟨hx, hb, hml, hown, hts⟩, hr, hlk, hA⟩ := id C
  refine lv_aload_n hx hb dX0_isWhole_0 rfl (lv_at hl 0 rfl) ?_
  refine cr_get C w 0 rfl rfl in_X0 1 (by decide) q164 rfl rfl dX0_isWhole_1 ?_
  obtain ⟨h1, h2⟩ := h
  refine lv_if_le (tgt := 25) hx hb dX0_isWhole_4 (by decide) (fun c1 => ?_) (fun c1 => ?_)
  · have h := h1 c1
    exact C_isWhole_a25 C hT37 h (lv_sub hl [0] rfl) w
  · have h := h2 c1
    refine lv_aload_n hx hb dX0_isWhole_7 rfl (lv_at hl 0 rfl) ?_
    refine cr_callVI (rest := []) (b := (fun o => o 0)) C w h (recv0 w) (cwV 0 hts (lw_V q378 q380 qs5 q82 q381) rfl rfl rfl C_openOnes_d ⟨Nat.le_of_ble_eq_true rfl, Nat.le_of_ble_eq_true rfl⟩) rfl hl.1 rfl (Nat.le_of_ble_eq_true rfl) ⟨Nat.le_of_ble_eq_true rfl, Nat.le_of_ble_eq_true rfl⟩ dX0_isWhole_8 (fun r1 S1 H locs h w => ?_)
    obtain ⟨h1, h2⟩ := h
    refine lv_if_ne (tgt := 25) hx hb dX0_isWhole_11 (by decide) (fun c1 => ?_) (fun c1 => ?_)
    · have h := h1 c1
      exact C_isWhole_a25 C hT37 h (lv_sub hl [0] rfl) w
    · have h := h2 c1
      refine lv_aload_n hx hb dX0_isWhole_14 rfl (lv_at hl 0 rfl) ?_
      refine cr_callVI (rest := []) (b := (fun o => o 0)) C w h (recv0 w) (cwV 0 hts (lw_V q386 q388 qs7 q82 q389) rfl rfl rfl C_hasBent_d ⟨Nat.le_of_ble_eq_true rfl, Nat.le_of_ble_eq_true rfl⟩) rfl hl.1 rfl (Nat.le_of_ble_eq_true rfl) ⟨Nat.le_of_ble_eq_true rfl, Nat.le_of_ble_eq_true rfl⟩ dX0_isWhole_15 (fun r2 S2 H locs h w => ?_)
      obtain ⟨h1, h2⟩ := h
      refine lv_if_ne (tgt := 25) hx hb dX0_isWhole_18 (by decide) (fun c1 => ?_) (fun c1 => ?_)
      · have h := h1 c1
        exact C_isWhole_a25 C hT37 h (lv_sub hl [0] rfl) w
      · have h := h2 c1
        refine lv_iconst (v := 1) hx hb dX0_isWhole_21 (by decide) ?_
        refine lv_goto (tgt := 26) hx hb dX0_isWhole_22 (by decide) ?_
        exact C_isWhole_a26 C hT37 h (lv_sub hl [0] rfl) w
def C_isWhole_VC (S : CS) (post : Int32 → CS → Prop) : Prop := ∀ (T37 : Int32 → Int32 → Int32 → CS → Prop), (∀ (x1 : Int32) (x2 : Int32) (x3 : Int32) (S : CS), C_isWhole_w37 post T37 x1 x2 x3 S → T37 x1 x2 x3 S) → C_isWhole_w0 post T37 S
theorem C_isWhole_ok {S : CS} {post : Int32 → CS → Prop} (h : C_isWhole_VC S post) : C_isWhole S post := by
  intro l D dA o sz
  refine cr_start (fun A => va_Qi post (cB D dA o A) A) rfl (Nat.le_of_ble_eq_true rfl) (by decide) ?_
  intro p e s m args below meth c ls A C w hl
  have hl : lv_has ls 4 [(0, .ref (o 0))] := hl
  have h := h (fun (x1 : Int32) (x2 : Int32) (x3 : Int32) S => ∀ (H : Heap) (locs : List Loc) (ls : Array Slot), lv_has ls 4 [(0, .ref (o 0)), (1, .int x1), (2, .int x2), (3, .int x3)] → cw D dA o A s S H locs → W p l e (rC_isWhole) s m args below meth c H locs 0 0 (cQi below args s D dA o A (rC_isWhole) post) (F0 m 37 ls [])) (fun _ _ _ S h H locs ls hl w => C_isWhole_a37 C (fun _ _ _ _ h => h) h hl w)
  exact C_isWhole_a0 C (fun _ _ _ _ h => h) h (lv_sub hl [0] rfl) w

/-! ThirdSheets$Glue.isEven()Z -/
def C_isEvenG_w62 (post : Int32 → CS → Prop) (T4 : Nat → Int32 → Int32 → CS → Prop) (T11 : Nat → Int32 → Int32 → Int32 → CS → Prop) (v0 : Int32) (a0 : Nat) (S : CS) : Prop :=
  (zok v0 ∧ post v0 S)
set_option maxHeartbeats 4000000 in
set_option maxRecDepth 100000 in
theorem C_isEvenG_a62 {p : Program} {l : Launch} {e : Env} {s : State} {m : MethodId} {args : Array Value} {below : List Frame} {meth : Method} {c : Code} {D : va_G} {dA : Nat → ClassId} {o : Nat → Nat} {A : Nat → Prop} {post : Int32 → CS → Prop} {T4 : Nat → Int32 → Int32 → CS → Prop} {T11 : Nat → Int32 → Int32 → Int32 → CS → Prop} (C : cC RX6 p m c cX6_isEven 4 s args meth (Option.some Jvm.ClassFile.FieldType.boolean) A) (hT4 : ∀ (a0 : Nat) (x1 : Int32) (x2 : Int32) (S : CS), T4 a0 x1 x2 S → ∀ (H : Heap) (locs : List Loc) (ls : Array Slot), lv_has ls 4 [(0, .ref a0), (1, .int x1), (2, .int x2)] → cw D dA o A s S H locs → W p l e (rC_isEvenG) s m args below meth c H locs 0 0 (cQi below args s D dA o A (rC_isEvenG) post) (F0 m 4 ls [])) (hT11 : ∀ (a0 : Nat) (x1 : Int32) (x2 : Int32) (x3 : Int32) (S : CS), T11 a0 x1 x2 x3 S → ∀ (H : Heap) (locs : List Loc) (ls : Array Slot), lv_has ls 4 [(0, .ref a0), (1, .int x1), (2, .int x2), (3, .int x3)] → cw D dA o A s S H locs → W p l e (rC_isEvenG) s m args below meth c H locs 0 0 (cQi below args s D dA o A (rC_isEvenG) post) (F0 m 11 ls [])) {v0 : Int32} {a0 : Nat} {S : CS} (h : C_isEvenG_w62 post T4 T11 v0 a0 S) {H : Heap} {locs : List Loc} {ls : Array Slot} (hl : lv_has ls 4 [(0, .ref a0)]) (w : cw D dA o A s S H locs) : W p l e (rC_isEvenG) s m args below meth c H locs 0 0 (cQi below args s D dA o A (rC_isEvenG) post) (F0 m 62 ls [.int v0]) := by
  unfold C_isEvenG_w62 at h
  obtain ⟨⟨hx, hb, hml, hown, hts⟩, hr, hlk, hA⟩ := id C
  exact cr_zret C w (zok_n h.1) h.2 (Nat.le_of_ble_eq_true rfl) (Nat.le_of_ble_eq_true rfl) dX6_isEven_62
def C_isEvenG_w37 (post : Int32 → CS → Prop) (T4 : Nat → Int32 → Int32 → CS → Prop) (T11 : Nat → Int32 → Int32 → Int32 → CS → Prop) (v0 : Int32) (v1 : Int32) (a0 : Nat) (x2 : Int32) (x3 : Int32) (S : CS) : Prop :=
  T11 a0 (v1 + v0) x2 (x3 + (1 : Int32)) S
set_option maxHeartbeats 4000000 in
set_option maxRecDepth 100000 in
theorem C_isEvenG_a37 {p : Program} {l : Launch} {e : Env} {s : State} {m : MethodId} {args : Array Value} {below : List Frame} {meth : Method} {c : Code} {D : va_G} {dA : Nat → ClassId} {o : Nat → Nat} {A : Nat → Prop} {post : Int32 → CS → Prop} {T4 : Nat → Int32 → Int32 → CS → Prop} {T11 : Nat → Int32 → Int32 → Int32 → CS → Prop} (C : cC RX6 p m c cX6_isEven 4 s args meth (Option.some Jvm.ClassFile.FieldType.boolean) A) (hT4 : ∀ (a0 : Nat) (x1 : Int32) (x2 : Int32) (S : CS), T4 a0 x1 x2 S → ∀ (H : Heap) (locs : List Loc) (ls : Array Slot), lv_has ls 4 [(0, .ref a0), (1, .int x1), (2, .int x2)] → cw D dA o A s S H locs → W p l e (rC_isEvenG) s m args below meth c H locs 0 0 (cQi below args s D dA o A (rC_isEvenG) post) (F0 m 4 ls [])) (hT11 : ∀ (a0 : Nat) (x1 : Int32) (x2 : Int32) (x3 : Int32) (S : CS), T11 a0 x1 x2 x3 S → ∀ (H : Heap) (locs : List Loc) (ls : Array Slot), lv_has ls 4 [(0, .ref a0), (1, .int x1), (2, .int x2), (3, .int x3)] → cw D dA o A s S H locs → W p l e (rC_isEvenG) s m args below meth c H locs 0 0 (cQi below args s D dA o A (rC_isEvenG) post) (F0 m 11 ls [])) {v0 : Int32} {v1 : Int32} {a0 : Nat} {x2 : Int32} {x3 : Int32} {S : CS} (h : C_isEvenG_w37 post T4 T11 v0 v1 a0 x2 x3 S) {H : Heap} {locs : List Loc} {ls : Array Slot} (hl : lv_has ls 4 [(0, .ref a0), (2, .int x2), (3, .int x3)]) (w : cw D dA o A s S H locs) : W p l e (rC_isEvenG) s m args below meth c H locs 0 0 (cQi below args s D dA o A (rC_isEvenG) post) (F0 m 37 ls [.int v0, .int v1]) := by
  unfold C_isEvenG_w37 at h
  obtain ⟨⟨hx, hb, hml, hown, hts⟩, hr, hlk, hA⟩ := id C
  refine lv_iadd hx hb dX6_isEven_37 ?_
  refine lv_istore_n (lv' := [(1, .int _), (0, .ref _), (2, .int _), (3, .int _)]) hx hb dX6_isEven_38 rfl hl (by decide) rfl (fun ls hl => ?_)
  refine lv_iinc (v := _ + (1 : Int32)) (lv' := [(3, .int _), (1, .int _), (0, .ref _), (2, .int _)]) hx hb dX6_isEven_39 hl (k := 3) rfl rfl (by decide) rfl (fun ls hl => ?_)
  refine lv_goto (tgt := 11) hx hb dX6_isEven_42 (by decide) ?_
  exact hT11 _ _ _ _ _ h _ _ _ (lv_sub hl [2, 1, 3, 0] rfl) w
def C_isEvenG_w11 (post : Int32 → CS → Prop) (T4 : Nat → Int32 → Int32 → CS → Prop) (T11 : Nat → Int32 → Int32 → Int32 → CS → Prop) (a0 : Nat) (x1 : Int32) (x2 : Int32) (x3 : Int32) (S : CS) : Prop :=
  ((x2 ≤ x3 → T4 a0 x1 (x2 + (1 : Int32)) S) ∧ (¬ x2 ≤ x3 → (pk S a0 0 ∧ (pk S (kG S a0).2.2 1 ∧ vp_in x3 (kN S (kG S a0).2.2) ∧ (pk S a0 0 ∧ (pk S (kG S a0).2.2 1 ∧ vp_in x2 (kN S (kG S a0).2.2) ∧ (((kT S (kG S a0).2.2 (x3).toNatClampNeg) ≤ (kT S (kG S a0).2.2 (x2).toNatClampNeg) → C_isEvenG_w37 post T4 T11 (0 : Int32) x1 a0 x2 x3 S) ∧ (¬ (kT S (kG S a0).2.2 (x3).toNatClampNeg) ≤ (kT S (kG S a0).2.2 (x2).toNatClampNeg) → C_isEvenG_w37 post T4 T11 (1 : Int32) x1 a0 x2 x3 S))))))))
set_option maxHeartbeats 4000000 in
set_option maxRecDepth 100000 in
theorem C_isEvenG_a11 {p : Program} {l : Launch} {e : Env} {s : State} {m : MethodId} {args : Array Value} {below : List Frame} {meth : Method} {c : Code} {D : va_G} {dA : Nat → ClassId} {o : Nat → Nat} {A : Nat → Prop} {post : Int32 → CS → Prop} {T4 : Nat → Int32 → Int32 → CS → Prop} {T11 : Nat → Int32 → Int32 → Int32 → CS → Prop} (C : cC RX6 p m c cX6_isEven 4 s args meth (Option.some Jvm.ClassFile.FieldType.boolean) A) (hT4 : ∀ (a0 : Nat) (x1 : Int32) (x2 : Int32) (S : CS), T4 a0 x1 x2 S → ∀ (H : Heap) (locs : List Loc) (ls : Array Slot), lv_has ls 4 [(0, .ref a0), (1, .int x1), (2, .int x2)] → cw D dA o A s S H locs → W p l e (rC_isEvenG) s m args below meth c H locs 0 0 (cQi below args s D dA o A (rC_isEvenG) post) (F0 m 4 ls [])) (hT11 : ∀ (a0 : Nat) (x1 : Int32) (x2 : Int32) (x3 : Int32) (S : CS), T11 a0 x1 x2 x3 S → ∀ (H : Heap) (locs : List Loc) (ls : Array Slot), lv_has ls 4 [(0, .ref a0), (1, .int x1), (2, .int x2), (3, .int x3)] → cw D dA o A s S H locs → W p l e (rC_isEvenG) s m args below meth c H locs 0 0 (cQi below args s D dA o A (rC_isEvenG) post) (F0 m 11 ls [])) {a0 : Nat} {x1 : Int32} {x2 : Int32} {x3 : Int32} {S : CS} (h : C_isEvenG_w11 post T4 T11 a0 x1 x2 x3 S) {H : Heap} {locs : List Loc} {ls : Array Slot} (hl : lv_has ls 4 [(0, .ref a0), (1, .int x1), (2, .int x2), (3, .int x3)]) (w : cw D dA o A s S H locs) : W p l e (rC_isEvenG) s m args below meth c H locs 0 0 (cQi below args s D dA o A (rC_isEvenG) post) (F0 m 11 ls []) := by
  unfold C_isEvenG_w11 at h
  obtain ⟨⟨hx, hb, hml, hown, hts⟩, hr, hlk, hA⟩ := id C
  refine lv_iload_n hx hb dX6_isEven_11 rfl (lv_at hl 3 rfl) ?_
  refine lv_iload_n hx hb dX6_isEven_12 rfl (lv_at hl 2 rfl) ?_
  obtain ⟨h1, h2⟩ := h
  refine lv_icmp_ge (tgt := 45) hx hb dX6_isEven_13 (by decide) (fun c1 => ?_) (fun c1 => ?_)
  · have h := h1 c1
    refine lv_iinc (v := _ + (1 : Int32)) (lv' := [(2, .int _), (0, .ref _), (1, .int _), (3, .int _)]) hx hb dX6_isEven_45 hl (k := 2) rfl rfl (by decide) rfl (fun ls hl => ?_)
    refine lv_goto (tgt := 4) hx hb dX6_isEven_48 (by decide) ?_
    exact hT4 _ _ _ _ h _ _ _ (lv_sub hl [1, 2, 0] rfl) w
  · have h := h2 c1
    refine lv_iload_n hx hb dX6_isEven_16 rfl (lv_at hl 1 rfl) ?_
    refine lv_aload_n hx hb dX6_isEven_17 rfl (lv_at hl 0 rfl) ?_
    obtain ⟨hpk, h⟩ := h
    refine cr_getGo C w hpk q261 dX6_isEven_18 ?_
    refine lv_iload_n hx hb dX6_isEven_21 rfl (lv_at hl 3 rfl) ?_
    obtain ⟨hpk, hi, h⟩ := h
    refine cr_tald C w hpk hi dX6_isEven_22 ?_
    refine lv_aload_n hx hb dX6_isEven_23 rfl (lv_at hl 0 rfl) ?_
    obtain ⟨hpk, h⟩ := h
    refine cr_getGo C w hpk q261 dX6_isEven_24 ?_
    refine lv_iload_n hx hb dX6_isEven_27 rfl (lv_at hl 2 rfl) ?_
    obtain ⟨hpk, hi, h⟩ := h
    refine cr_tald C w hpk hi dX6_isEven_28 ?_
    obtain ⟨h1, h2⟩ := h
    refine lv_icmp_le (tgt := 36) hx hb dX6_isEven_29 (by decide) (fun c1 => ?_) (fun c1 => ?_)
    · have h := h1 c1
      refine lv_iconst (v := 0) hx hb dX6_isEven_36 (by decide) ?_
      exact C_isEvenG_a37 C hT4 hT11 h (lv_sub hl [0, 2, 3] rfl) w
    · have h := h2 c1
      refine lv_iconst (v := 1) hx hb dX6_isEven_32 (by decide) ?_
      refine lv_goto (tgt := 37) hx hb dX6_isEven_33 (by decide) ?_
      exact C_isEvenG_a37 C hT4 hT11 h (lv_sub hl [0, 2, 3] rfl) w
def C_isEvenG_w4 (post : Int32 → CS → Prop) (T4 : Nat → Int32 → Int32 → CS → Prop) (T11 : Nat → Int32 → Int32 → Int32 → CS → Prop) (a0 : Nat) (x1 : Int32) (x2 : Int32) (S : CS) : Prop :=
  (((4 : Int32) ≤ x2 → ((¬ (x1 - x1 / (2 : Int32) * (2 : Int32)) = 0 → C_isEvenG_w62 post T4 T11 (0 : Int32) a0 S) ∧ ((x1 - x1 / (2 : Int32) * (2 : Int32)) = 0 → C_isEvenG_w62 post T4 T11 (1 : Int32) a0 S))) ∧ (¬ (4 : Int32) ≤ x2 → T11 a0 x1 x2 (0 : Int32) S))
set_option maxHeartbeats 4000000 in
set_option maxRecDepth 100000 in
theorem C_isEvenG_a4 {p : Program} {l : Launch} {e : Env} {s : State} {m : MethodId} {args : Array Value} {below : List Frame} {meth : Method} {c : Code} {D : va_G} {dA : Nat → ClassId} {o : Nat → Nat} {A : Nat → Prop} {post : Int32 → CS → Prop} {T4 : Nat → Int32 → Int32 → CS → Prop} {T11 : Nat → Int32 → Int32 → Int32 → CS → Prop} (C : cC RX6 p m c cX6_isEven 4 s args meth (Option.some Jvm.ClassFile.FieldType.boolean) A) (hT4 : ∀ (a0 : Nat) (x1 : Int32) (x2 : Int32) (S : CS), T4 a0 x1 x2 S → ∀ (H : Heap) (locs : List Loc) (ls : Array Slot), lv_has ls 4 [(0, .ref a0), (1, .int x1), (2, .int x2)] → cw D dA o A s S H locs → W p l e (rC_isEvenG) s m args below meth c H locs 0 0 (cQi below args s D dA o A (rC_isEvenG) post) (F0 m 4 ls [])) (hT11 : ∀ (a0 : Nat) (x1 : Int32) (x2 : Int32) (x3 : Int32) (S : CS), T11 a0 x1 x2 x3 S → ∀ (H : Heap) (locs : List Loc) (ls : Array Slot), lv_has ls 4 [(0, .ref a0), (1, .int x1), (2, .int x2), (3, .int x3)] → cw D dA o A s S H locs → W p l e (rC_isEvenG) s m args below meth c H locs 0 0 (cQi below args s D dA o A (rC_isEvenG) post) (F0 m 11 ls [])) {a0 : Nat} {x1 : Int32} {x2 : Int32} {S : CS} (h : C_isEvenG_w4 post T4 T11 a0 x1 x2 S) {H : Heap} {locs : List Loc} {ls : Array Slot} (hl : lv_has ls 4 [(0, .ref a0), (1, .int x1), (2, .int x2)]) (w : cw D dA o A s S H locs) : W p l e (rC_isEvenG) s m args below meth c H locs 0 0 (cQi below args s D dA o A (rC_isEvenG) post) (F0 m 4 ls []) := by
  unfold C_isEvenG_w4 at h
  obtain ⟨⟨hx, hb, hml, hown, hts⟩, hr, hlk, hA⟩ := id C
  refine lv_iload_n hx hb dX6_isEven_4 rfl (lv_at hl 2 rfl) ?_
  refine lv_iconst (v := 4) hx hb dX6_isEven_5 (by decide) ?_
  obtain ⟨h1, h2⟩ := h
  refine lv_icmp_ge (tgt := 51) hx hb dX6_isEven_6 (by decide) (fun c1 => ?_) (fun c1 => ?_)
  · have h := h1 c1
    refine lv_iload_n hx hb dX6_isEven_51 rfl (lv_at hl 1 rfl) ?_
    refine lv_iconst (v := 2) hx hb dX6_isEven_52 (by decide) ?_
    refine lv_irem hx hb dX6_isEven_53 (by decide) ?_
    obtain ⟨h1, h2⟩ := h
    refine lv_if_ne (tgt := 61) hx hb dX6_isEven_54 (by decide) (fun c1 => ?_) (fun c1 => ?_)
    · have h := h1 c1
      refine lv_iconst (v := 0) hx hb dX6_isEven_61 (by decide) ?_
      exact C_isEvenG_a62 C hT4 hT11 h (lv_sub hl [0] rfl) w
    · have h := h2 c1
      refine lv_iconst (v := 1) hx hb dX6_isEven_57 (by decide) ?_
      refine lv_goto (tgt := 62) hx hb dX6_isEven_58 (by decide) ?_
      exact C_isEvenG_a62 C hT4 hT11 h (lv_sub hl [0] rfl) w
  · have h := h2 c1
    refine lv_iconst (v := 0) hx hb dX6_isEven_9 (by decide) ?_
    refine lv_istore_n (lv' := [(3, .int _), (0, .ref _), (1, .int _), (2, .int _)]) hx hb dX6_isEven_10 rfl hl (by decide) rfl (fun ls hl => ?_)
    exact hT11 _ _ _ _ _ h _ _ _ (lv_sub hl [1, 2, 3, 0] rfl) w
def C_isEvenG_w0 (post : Int32 → CS → Prop) (T4 : Nat → Int32 → Int32 → CS → Prop) (T11 : Nat → Int32 → Int32 → Int32 → CS → Prop) (a0 : Nat) (S : CS) : Prop :=
  T4 a0 (0 : Int32) (0 : Int32) S
set_option maxHeartbeats 4000000 in
set_option maxRecDepth 100000 in
theorem C_isEvenG_a0 {p : Program} {l : Launch} {e : Env} {s : State} {m : MethodId} {args : Array Value} {below : List Frame} {meth : Method} {c : Code} {D : va_G} {dA : Nat → ClassId} {o : Nat → Nat} {A : Nat → Prop} {post : Int32 → CS → Prop} {T4 : Nat → Int32 → Int32 → CS → Prop} {T11 : Nat → Int32 → Int32 → Int32 → CS → Prop} (C : cC RX6 p m c cX6_isEven 4 s args meth (Option.some Jvm.ClassFile.FieldType.boolean) A) (hT4 : ∀ (a0 : Nat) (x1 : Int32) (x2 : Int32) (S : CS), T4 a0 x1 x2 S → ∀ (H : Heap) (locs : List Loc) (ls : Array Slot), lv_has ls 4 [(0, .ref a0), (1, .int x1), (2, .int x2)] → cw D dA o A s S H locs → W p l e (rC_isEvenG) s m args below meth c H locs 0 0 (cQi below args s D dA o A (rC_isEvenG) post) (F0 m 4 ls [])) (hT11 : ∀ (a0 : Nat) (x1 : Int32) (x2 : Int32) (x3 : Int32) (S : CS), T11 a0 x1 x2 x3 S → ∀ (H : Heap) (locs : List Loc) (ls : Array Slot), lv_has ls 4 [(0, .ref a0), (1, .int x1), (2, .int x2), (3, .int x3)] → cw D dA o A s S H locs → W p l e (rC_isEvenG) s m args below meth c H locs 0 0 (cQi below args s D dA o A (rC_isEvenG) post) (F0 m 11 ls [])) {a0 : Nat} {S : CS} (h : C_isEvenG_w0 post T4 T11 a0 S) {H : Heap} {locs : List Loc} {ls : Array Slot} (hl : lv_has ls 4 [(0, .ref a0)]) (w : cw D dA o A s S H locs) : W p l e (rC_isEvenG) s m args below meth c H locs 0 0 (cQi below args s D dA o A (rC_isEvenG) post) (F0 m 0 ls []) := by
  unfold C_isEvenG_w0 at h
  obtain ⟨⟨hx, hb, hml, hown, hts⟩, hr, hlk, hA⟩ := id C
  refine lv_iconst (v := 0) hx hb dX6_isEven_0 (by decide) ?_
  refine lv_istore_n (lv' := [(1, .int _), (0, .ref _)]) hx hb dX6_isEven_1 rfl hl (by decide) rfl (fun ls hl => ?_)
  refine lv_iconst (v := 0) hx hb dX6_isEven_2 (by decide) ?_
  refine lv_istore_n (lv' := [(2, .int _), (1, .int _), (0, .ref _)]) hx hb dX6_isEven_3 rfl hl (by decide) rfl (fun ls hl => ?_)
  exact hT4 _ _ _ _ h _ _ _ (lv_sub hl [2, 1, 0] rfl) w
def C_isEvenG_VC (a0 : Nat) (S : CS) (post : Int32 → CS → Prop) : Prop := ∀ (T4 : Nat → Int32 → Int32 → CS → Prop) (T11 : Nat → Int32 → Int32 → Int32 → CS → Prop), (∀ (a0 : Nat) (x1 : Int32) (x2 : Int32) (S : CS), C_isEvenG_w4 post T4 T11 a0 x1 x2 S → T4 a0 x1 x2 S) → (∀ (a0 : Nat) (x1 : Int32) (x2 : Int32) (x3 : Int32) (S : CS), C_isEvenG_w11 post T4 T11 a0 x1 x2 x3 S → T11 a0 x1 x2 x3 S) → C_isEvenG_w0 post T4 T11 a0 S
theorem C_isEvenG_ok {a0 : Nat} {S : CS} {post : Int32 → CS → Prop} (h : C_isEvenG_VC a0 S post) : C_isEvenG a0 S post := by
  intro l D dA o sz
  refine cr_start (fun A => va_Qi post (cB D dA o A) A) rfl (Nat.le_of_ble_eq_true rfl) (by decide) ?_
  intro p e s m args below meth c ls A C w hl
  have hl : lv_has ls 4 [(0, .ref a0)] := hl
  have h := h (fun (a0 : Nat) (x1 : Int32) (x2 : Int32) S => ∀ (H : Heap) (locs : List Loc) (ls : Array Slot), lv_has ls 4 [(0, .ref a0), (1, .int x1), (2, .int x2)] → cw D dA o A s S H locs → W p l e (rC_isEvenG) s m args below meth c H locs 0 0 (cQi below args s D dA o A (rC_isEvenG) post) (F0 m 4 ls [])) (fun (a0 : Nat) (x1 : Int32) (x2 : Int32) (x3 : Int32) S => ∀ (H : Heap) (locs : List Loc) (ls : Array Slot), lv_has ls 4 [(0, .ref a0), (1, .int x1), (2, .int x2), (3, .int x3)] → cw D dA o A s S H locs → W p l e (rC_isEvenG) s m args below meth c H locs 0 0 (cQi below args s D dA o A (rC_isEvenG) post) (F0 m 11 ls [])) (fun _ _ _ S h H locs ls hl w => C_isEvenG_a4 C (fun _ _ _ _ h => h) (fun _ _ _ _ _ h => h) h hl w) (fun _ _ _ _ S h H locs ls hl w => C_isEvenG_a11 C (fun _ _ _ _ h => h) (fun _ _ _ _ _ h => h) h hl w)
  exact C_isEvenG_a0 C (fun _ _ _ _ h => h) (fun _ _ _ _ _ h => h) h (lv_sub hl [0] rfl) w

/-! ThirdSheets.sets()I -/
def C_sets_w185 (post : Int32 → CS → Prop) (T18 : Nat → Nat → Int32 → Int32 → CS → Prop) (T57 : Nat → Nat → Int32 → Int32 → Int32 → Int32 → CS → Prop) (T67 : Nat → Nat → Int32 → Int32 → Int32 → Int32 → Int32 → CS → Prop) (v0 : Int32) (v1 : Int32) (a1 : Nat) (a2 : Nat) (x3 : Int32) (x4 : Int32) (x5 : Int32) (x6 : Int32) (x7 : Int32) (S : CS) : Prop :=
  (zok (v1 &&& v0) ∧ (fun (S1 : CS) => T67 a1 a2 x3 x4 x5 x6 (x7 + (1 : Int32)) S1) (tF S 5 (v1 &&& v0)))
set_option maxHeartbeats 4000000 in
set_option maxRecDepth 100000 in
theorem C_sets_a185 {p : Program} {l : Launch} {e : Env} {s : State} {m : MethodId} {args : Array Value} {below : List Frame} {meth : Method} {c : Code} {D : va_G} {dA : Nat → ClassId} {o : Nat → Nat} {A : Nat → Prop} {post : Int32 → CS → Prop} {T18 : Nat → Nat → Int32 → Int32 → CS → Prop} {T57 : Nat → Nat → Int32 → Int32 → Int32 → Int32 → CS → Prop} {T67 : Nat → Nat → Int32 → Int32 → Int32 → Int32 → Int32 → CS → Prop} (C : cC RX0 p m c cX0_sets 10 s args meth (Option.some Jvm.ClassFile.FieldType.int) A) (hT18 : ∀ (a1 : Nat) (a2 : Nat) (x3 : Int32) (x4 : Int32) (S : CS), T18 a1 a2 x3 x4 S → ∀ (H : Heap) (locs : List Loc) (ls : Array Slot), lv_has ls 10 [(0, .ref (o 0)), (1, .ref a1), (2, .ref a2), (3, .int x3), (4, .int x4)] → cw D dA o A s S H locs → W p l e (rC_sets) s m args below meth c H locs 2 6 (cQi below args s D dA o A (rC_sets) post) (F0 m 18 ls [])) (hT57 : ∀ (a1 : Nat) (a2 : Nat) (x3 : Int32) (x4 : Int32) (x5 : Int32) (x6 : Int32) (S : CS), T57 a1 a2 x3 x4 x5 x6 S → ∀ (H : Heap) (locs : List Loc) (ls : Array Slot), lv_has ls 10 [(0, .ref (o 0)), (1, .ref a1), (2, .ref a2), (3, .int x3), (4, .int x4), (5, .int x5), (6, .int x6)] → cw D dA o A s S H locs → W p l e (rC_sets) s m args below meth c H locs 2 6 (cQi below args s D dA o A (rC_sets) post) (F0 m 57 ls [])) (hT67 : ∀ (a1 : Nat) (a2 : Nat) (x3 : Int32) (x4 : Int32) (x5 : Int32) (x6 : Int32) (x7 : Int32) (S : CS), T67 a1 a2 x3 x4 x5 x6 x7 S → ∀ (H : Heap) (locs : List Loc) (ls : Array Slot), lv_has ls 10 [(0, .ref (o 0)), (1, .ref a1), (2, .ref a2), (3, .int x3), (4, .int x4), (5, .int x5), (6, .int x6), (7, .int x7)] → cw D dA o A s S H locs → W p l e (rC_sets) s m args below meth c H locs 2 6 (cQi below args s D dA o A (rC_sets) post) (F0 m 67 ls [])) {v0 : Int32} {v1 : Int32} {a1 : Nat} {a2 : Nat} {x3 : Int32} {x4 : Int32} {x5 : Int32} {x6 : Int32} {x7 : Int32} {S : CS} (h : C_sets_w185 post T18 T57 T67 v0 v1 a1 a2 x3 x4 x5 x6 x7 S) {H : Heap} {locs : List Loc} {ls : Array Slot} (hl : lv_has ls 10 [(0, .ref (o 0)), (1, .ref a1), (2, .ref a2), (3, .int x3), (4, .int x4), (5, .int x5), (6, .int x6), (7, .int x7)]) (w : cw D dA o A s S H locs) : W p l e (rC_sets) s m args below meth c H locs 2 6 (cQi below args s D dA o A (rC_sets) post) (F0 m 185 ls [.int v0, .int v1, .ref (o 0)]) := by
  unfold C_sets_w185 at h
  obtain ⟨⟨hx, hb, hml, hown, hts⟩, hr, hlk, hA⟩ := id C
  refine lv_iand hx hb dX0_sets_185 ?_
  obtain ⟨hz, h⟩ := h
  refine cr_put (ty := .boolean) C w 5 (by decide) q169 rfl rfl (by decide +kernel) (zok_n hz) (zok_f hz) CWf_5 dX0_sets_186 (fun H locs w => ?_)
  refine lv_iinc (v := _ + (1 : Int32)) (lv' := [(7, .int _), (0, .ref _), (1, .ref _), (2, .ref _), (3, .int _), (4, .int _), (5, .int _), (6, .int _)]) hx hb dX0_sets_189 hl (k := 7) rfl rfl (by decide) rfl (fun ls hl => ?_)
  refine lv_goto (tgt := 67) hx hb dX0_sets_192 (by decide) ?_
  exact hT67 _ _ _ _ _ _ _ _ h _ _ _ (lv_sub hl [1, 2, 3, 4, 5, 6, 7, 0] rfl) w
def C_sets_w180 (post : Int32 → CS → Prop) (T18 : Nat → Nat → Int32 → Int32 → CS → Prop) (T57 : Nat → Nat → Int32 → Int32 → Int32 → Int32 → CS → Prop) (T67 : Nat → Nat → Int32 → Int32 → Int32 → Int32 → Int32 → CS → Prop) (v0 : Int32) (a1 : Nat) (a2 : Nat) (x3 : Int32) (x4 : Int32) (x5 : Int32) (x6 : Int32) (x7 : Int32) (S : CS) : Prop :=
  C_sets_w185 post T18 T57 T67 (1 : Int32) v0 a1 a2 x3 x4 x5 x6 x7 S
set_option maxHeartbeats 4000000 in
set_option maxRecDepth 100000 in
theorem C_sets_a180 {p : Program} {l : Launch} {e : Env} {s : State} {m : MethodId} {args : Array Value} {below : List Frame} {meth : Method} {c : Code} {D : va_G} {dA : Nat → ClassId} {o : Nat → Nat} {A : Nat → Prop} {post : Int32 → CS → Prop} {T18 : Nat → Nat → Int32 → Int32 → CS → Prop} {T57 : Nat → Nat → Int32 → Int32 → Int32 → Int32 → CS → Prop} {T67 : Nat → Nat → Int32 → Int32 → Int32 → Int32 → Int32 → CS → Prop} (C : cC RX0 p m c cX0_sets 10 s args meth (Option.some Jvm.ClassFile.FieldType.int) A) (hT18 : ∀ (a1 : Nat) (a2 : Nat) (x3 : Int32) (x4 : Int32) (S : CS), T18 a1 a2 x3 x4 S → ∀ (H : Heap) (locs : List Loc) (ls : Array Slot), lv_has ls 10 [(0, .ref (o 0)), (1, .ref a1), (2, .ref a2), (3, .int x3), (4, .int x4)] → cw D dA o A s S H locs → W p l e (rC_sets) s m args below meth c H locs 2 6 (cQi below args s D dA o A (rC_sets) post) (F0 m 18 ls [])) (hT57 : ∀ (a1 : Nat) (a2 : Nat) (x3 : Int32) (x4 : Int32) (x5 : Int32) (x6 : Int32) (S : CS), T57 a1 a2 x3 x4 x5 x6 S → ∀ (H : Heap) (locs : List Loc) (ls : Array Slot), lv_has ls 10 [(0, .ref (o 0)), (1, .ref a1), (2, .ref a2), (3, .int x3), (4, .int x4), (5, .int x5), (6, .int x6)] → cw D dA o A s S H locs → W p l e (rC_sets) s m args below meth c H locs 2 6 (cQi below args s D dA o A (rC_sets) post) (F0 m 57 ls [])) (hT67 : ∀ (a1 : Nat) (a2 : Nat) (x3 : Int32) (x4 : Int32) (x5 : Int32) (x6 : Int32) (x7 : Int32) (S : CS), T67 a1 a2 x3 x4 x5 x6 x7 S → ∀ (H : Heap) (locs : List Loc) (ls : Array Slot), lv_has ls 10 [(0, .ref (o 0)), (1, .ref a1), (2, .ref a2), (3, .int x3), (4, .int x4), (5, .int x5), (6, .int x6), (7, .int x7)] → cw D dA o A s S H locs → W p l e (rC_sets) s m args below meth c H locs 2 6 (cQi below args s D dA o A (rC_sets) post) (F0 m 67 ls [])) {v0 : Int32} {a1 : Nat} {a2 : Nat} {x3 : Int32} {x4 : Int32} {x5 : Int32} {x6 : Int32} {x7 : Int32} {S : CS} (h : C_sets_w180 post T18 T57 T67 v0 a1 a2 x3 x4 x5 x6 x7 S) {H : Heap} {locs : List Loc} {ls : Array Slot} (hl : lv_has ls 10 [(0, .ref (o 0)), (1, .ref a1), (2, .ref a2), (3, .int x3), (4, .int x4), (5, .int x5), (6, .int x6), (7, .int x7)]) (w : cw D dA o A s S H locs) : W p l e (rC_sets) s m args below meth c H locs 2 6 (cQi below args s D dA o A (rC_sets) post) (F0 m 180 ls [.int v0, .ref (o 0)]) := by
  unfold C_sets_w180 at h
  obtain ⟨⟨hx, hb, hml, hown, hts⟩, hr, hlk, hA⟩ := id C
  refine lv_iconst (v := 1) hx hb dX0_sets_180 (by decide) ?_
  refine lv_goto (tgt := 185) hx hb dX0_sets_181 (by decide) ?_
  exact C_sets_a185 C hT18 hT57 hT67 h (lv_sub hl [0, 1, 2, 3, 4, 5, 6, 7] rfl) w
def C_sets_w158 (post : Int32 → CS → Prop) (T18 : Nat → Nat → Int32 → Int32 → CS → Prop) (T57 : Nat → Nat → Int32 → Int32 → Int32 → Int32 → CS → Prop) (T67 : Nat → Nat → Int32 → Int32 → Int32 → Int32 → Int32 → CS → Prop) (a1 : Nat) (a2 : Nat) (x3 : Int32) (x4 : Int32) (x5 : Int32) (x6 : Int32) (x7 : Int32) (y8 : Option Nat) (x9 : Int32) (S : CS) : Prop :=
  ((y8 = none → C_sets_w180 post T18 T57 T67 (kF S 5) a1 a2 x3 x4 x5 x6 x7 S) ∧ (∀ g1 : Nat, y8 = some g1 → (pk S g1 0 ∧ (pk S a1 1 ∧ vp_in (kG S g1).1 (kN S a1) ∧ ((¬ (kT S a1 ((kG S g1).1).toNatClampNeg) = x9 → C_sets_w185 post T18 T57 T67 (0 : Int32) (kF S 5) a1 a2 x3 x4 x5 x6 x7 S) ∧ ((kT S a1 ((kG S g1).1).toNatClampNeg) = x9 → C_sets_w180 post T18 T57 T67 (kF S 5) a1 a2 x3 x4 x5 x6 x7 S))))))
set_option maxHeartbeats 4000000 in
set_option maxRecDepth 100000 in
theorem C_sets_a158 {p : Program} {l : Launch} {e : Env} {s : State} {m : MethodId} {args : Array Value} {below : List Frame} {meth : Method} {c : Code} {D : va_G} {dA : Nat → ClassId} {o : Nat → Nat} {A : Nat → Prop} {post : Int32 → CS → Prop} {T18 : Nat → Nat → Int32 → Int32 → CS → Prop} {T57 : Nat → Nat → Int32 → Int32 → Int32 → Int32 → CS → Prop} {T67 : Nat → Nat → Int32 → Int32 → Int32 → Int32 → Int32 → CS → Prop} (C : cC RX0 p m c cX0_sets 10 s args meth (Option.some Jvm.ClassFile.FieldType.int) A) (hT18 : ∀ (a1 : Nat) (a2 : Nat) (x3 : Int32) (x4 : Int32) (S : CS), T18 a1 a2 x3 x4 S → ∀ (H : Heap) (locs : List Loc) (ls : Array Slot), lv_has ls 10 [(0, .ref (o 0)), (1, .ref a1), (2, .ref a2), (3, .int x3), (4, .int x4)] → cw D dA o A s S H locs → W p l e (rC_sets) s m args below meth c H locs 2 6 (cQi below args s D dA o A (rC_sets) post) (F0 m 18 ls [])) (hT57 : ∀ (a1 : Nat) (a2 : Nat) (x3 : Int32) (x4 : Int32) (x5 : Int32) (x6 : Int32) (S : CS), T57 a1 a2 x3 x4 x5 x6 S → ∀ (H : Heap) (locs : List Loc) (ls : Array Slot), lv_has ls 10 [(0, .ref (o 0)), (1, .ref a1), (2, .ref a2), (3, .int x3), (4, .int x4), (5, .int x5), (6, .int x6)] → cw D dA o A s S H locs → W p l e (rC_sets) s m args below meth c H locs 2 6 (cQi below args s D dA o A (rC_sets) post) (F0 m 57 ls [])) (hT67 : ∀ (a1 : Nat) (a2 : Nat) (x3 : Int32) (x4 : Int32) (x5 : Int32) (x6 : Int32) (x7 : Int32) (S : CS), T67 a1 a2 x3 x4 x5 x6 x7 S → ∀ (H : Heap) (locs : List Loc) (ls : Array Slot), lv_has ls 10 [(0, .ref (o 0)), (1, .ref a1), (2, .ref a2), (3, .int x3), (4, .int x4), (5, .int x5), (6, .int x6), (7, .int x7)] → cw D dA o A s S H locs → W p l e (rC_sets) s m args below meth c H locs 2 6 (cQi below args s D dA o A (rC_sets) post) (F0 m 67 ls [])) {a1 : Nat} {a2 : Nat} {x3 : Int32} {x4 : Int32} {x5 : Int32} {x6 : Int32} {x7 : Int32} {y8 : Option Nat} {x9 : Int32} {S : CS} (h : C_sets_w158 post T18 T57 T67 a1 a2 x3 x4 x5 x6 x7 y8 x9 S) {H : Heap} {locs : List Loc} {ls : Array Slot} (hl : lv_has ls 10 [(0, .ref (o 0)), (1, .ref a1), (2, .ref a2), (3, .int x3), (4, .int x4), (5, .int x5), (6, .int x6), (7, .int x7), (8, va_rf y8), (9, .int x9)]) (w : cw D dA o A s S H locs) : W p l e (rC_sets) s m args below meth c H locs 2 6 (cQi below args s D dA o A (rC_sets) post) (F0 m 158 ls []) := by
  unfold C_sets_w158 at h
  obtain ⟨⟨hx, hb, hml, hown, hts⟩, hr, hlk, hA⟩ := id C
  refine lv_aload_n hx hb dX0_sets_158 rfl (lv_at hl 0 rfl) ?_
  refine lv_dup hx hb dX0_sets_159 rfl ?_
  refine cr_get C w 0 rfl rfl in_X0 5 (by decide) q169 rfl rfl dX0_sets_160 ?_
  refine lv_aloadQ hx hb dX0_sets_163 (lv_at hl 8 rfl) ?_
  obtain ⟨h1, h2⟩ := h
  refine lv_ifnullQ (tgt := 180) hx hb dX0_sets_165 (by decide) (fun c1 => ?_) (fun g1 c1 => ?_)
  · have h := h1 c1
    exact C_sets_a180 C hT18 hT57 hT67 h (lv_sub hl [0, 1, 2, 3, 4, 5, 6, 7] rfl) w
  · have h := h2 g1 c1
    rw [c1] at hl
    refine lv_aload_n hx hb dX0_sets_168 rfl (lv_at hl 1 rfl) ?_
    refine lv_aload hx hb dX0_sets_169 (lv_at hl 8 rfl) ?_
    obtain ⟨hpk, h⟩ := h
    refine cr_getGp C w hpk nwF_RX0_116 dX0_sets_171 ?_
    obtain ⟨hpk, hi, h⟩ := h
    refine cr_tald C w hpk hi dX0_sets_174 ?_
    refine lv_iload hx hb dX0_sets_175 (lv_at hl 9 rfl) ?_
    obtain ⟨h1, h2⟩ := h
    refine lv_icmp_ne (tgt := 184) hx hb dX0_sets_177 (by decide) (fun c1 => ?_) (fun c1 => ?_)
    · have h := h1 c1
      refine lv_iconst (v := 0) hx hb dX0_sets_184 (by decide) ?_
      exact C_sets_a185 C hT18 hT57 hT67 h (lv_sub hl [0, 1, 2, 3, 4, 5, 6, 7] rfl) w
    · have h := h2 c1
      exact C_sets_a180 C hT18 hT57 hT67 h (lv_sub hl [0, 1, 2, 3, 4, 5, 6, 7] rfl) w
def C_sets_w120 (post : Int32 → CS → Prop) (T18 : Nat → Nat → Int32 → Int32 → CS → Prop) (T57 : Nat → Nat → Int32 → Int32 → Int32 → Int32 → CS → Prop) (T67 : Nat → Nat → Int32 → Int32 → Int32 → Int32 → Int32 → CS → Prop) (v0 : Int32) (a1 : Nat) (a2 : Nat) (x3 : Int32) (x4 : Int32) (x5 : Int32) (x6 : Int32) (x7 : Int32) (y8 : Option Nat) (S : CS) : Prop :=
  ((y8 = none → C_sets_w158 post T18 T57 T67 a1 a2 x3 x4 x5 x6 x7 y8 v0 S) ∧ (∀ g1 : Nat, y8 = some g1 → (pk S g1 0 ∧ (pk S a1 1 ∧ vp_in (kG S g1).1 (kN S a1) ∧ ((¬ (kT S a1 ((kG S g1).1).toNatClampNeg) = 0 → C_sets_w158 post T18 T57 T67 a1 a2 x3 x4 x5 x6 x7 (some g1) v0 S) ∧ ((kT S a1 ((kG S g1).1).toNatClampNeg) = 0 → (pk S g1 0 ∧ (pk S a1 1 ∧ vp_in (kG S g1).1 (kN S a1) ∧ (fun (S2 : CS) => (pk S2 g1 0 ∧ (pk S2 a2 1 ∧ vp_in x5 (kN S2 a2) ∧ (fun (S3 : CS) => C_sets_w158 post T18 T57 T67 a1 a2 x3 x4 (x5 + (1 : Int32)) x6 x7 (some g1) v0 S3) (tT S2 a2 (x5).toNatClampNeg (kG S2 g1).1)))) (tT S a1 ((kG S g1).1).toNatClampNeg v0)))))))))
set_option maxHeartbeats 4000000 in
set_option maxRecDepth 100000 in
theorem C_sets_a120 {p : Program} {l : Launch} {e : Env} {s : State} {m : MethodId} {args : Array Value} {below : List Frame} {meth : Method} {c : Code} {D : va_G} {dA : Nat → ClassId} {o : Nat → Nat} {A : Nat → Prop} {post : Int32 → CS → Prop} {T18 : Nat → Nat → Int32 → Int32 → CS → Prop} {T57 : Nat → Nat → Int32 → Int32 → Int32 → Int32 → CS → Prop} {T67 : Nat → Nat → Int32 → Int32 → Int32 → Int32 → Int32 → CS → Prop} (C : cC RX0 p m c cX0_sets 10 s args meth (Option.some Jvm.ClassFile.FieldType.int) A) (hT18 : ∀ (a1 : Nat) (a2 : Nat) (x3 : Int32) (x4 : Int32) (S : CS), T18 a1 a2 x3 x4 S → ∀ (H : Heap) (locs : List Loc) (ls : Array Slot), lv_has ls 10 [(0, .ref (o 0)), (1, .ref a1), (2, .ref a2), (3, .int x3), (4, .int x4)] → cw D dA o A s S H locs → W p l e (rC_sets) s m args below meth c H locs 2 6 (cQi below args s D dA o A (rC_sets) post) (F0 m 18 ls [])) (hT57 : ∀ (a1 : Nat) (a2 : Nat) (x3 : Int32) (x4 : Int32) (x5 : Int32) (x6 : Int32) (S : CS), T57 a1 a2 x3 x4 x5 x6 S → ∀ (H : Heap) (locs : List Loc) (ls : Array Slot), lv_has ls 10 [(0, .ref (o 0)), (1, .ref a1), (2, .ref a2), (3, .int x3), (4, .int x4), (5, .int x5), (6, .int x6)] → cw D dA o A s S H locs → W p l e (rC_sets) s m args below meth c H locs 2 6 (cQi below args s D dA o A (rC_sets) post) (F0 m 57 ls [])) (hT67 : ∀ (a1 : Nat) (a2 : Nat) (x3 : Int32) (x4 : Int32) (x5 : Int32) (x6 : Int32) (x7 : Int32) (S : CS), T67 a1 a2 x3 x4 x5 x6 x7 S → ∀ (H : Heap) (locs : List Loc) (ls : Array Slot), lv_has ls 10 [(0, .ref (o 0)), (1, .ref a1), (2, .ref a2), (3, .int x3), (4, .int x4), (5, .int x5), (6, .int x6), (7, .int x7)] → cw D dA o A s S H locs → W p l e (rC_sets) s m args below meth c H locs 2 6 (cQi below args s D dA o A (rC_sets) post) (F0 m 67 ls [])) {v0 : Int32} {a1 : Nat} {a2 : Nat} {x3 : Int32} {x4 : Int32} {x5 : Int32} {x6 : Int32} {x7 : Int32} {y8 : Option Nat} {S : CS} (h : C_sets_w120 post T18 T57 T67 v0 a1 a2 x3 x4 x5 x6 x7 y8 S) {H : Heap} {locs : List Loc} {ls : Array Slot} (hl : lv_has ls 10 [(0, .ref (o 0)), (1, .ref a1), (2, .ref a2), (3, .int x3), (4, .int x4), (5, .int x5), (6, .int x6), (7, .int x7), (8, va_rf y8)]) (w : cw D dA o A s S H locs) : W p l e (rC_sets) s m args below meth c H locs 2 6 (cQi below args s D dA o A (rC_sets) post) (F0 m 120 ls [.int v0]) := by
  unfold C_sets_w120 at h
  obtain ⟨⟨hx, hb, hml, hown, hts⟩, hr, hlk, hA⟩ := id C
  refine lv_istore (lv' := [(9, .int _), (0, .ref _), (1, .ref _), (2, .ref _), (3, .int _), (4, .int _), (5, .int _), (6, .int _), (7, .int _), (8, va_rf _)]) hx hb dX0_sets_120 hl (by decide) ((congrArg (List.cons _) (lv_filtC (by intro q hq hq1; simp only [List.mem_cons, List.not_mem_nil, or_false] at hq; rcases hq with rfl | rfl | rfl | rfl | rfl | rfl | rfl | rfl | rfl <;> first | exact va_rf_cat _ | (exfalso; simp at hq1)))).trans rfl) (fun ls hl => ?_)
  refine lv_aloadQ hx hb dX0_sets_122 (lv_at hl 9 rfl) ?_
  obtain ⟨h1, h2⟩ := h
  refine lv_ifnullQ (tgt := 158) hx hb dX0_sets_124 (by decide) (fun c1 => ?_) (fun g1 c1 => ?_)
  · have h := h1 c1
    exact C_sets_a158 C hT18 hT57 hT67 h (lv_sub hl [1, 2, 3, 4, 5, 6, 7, 8, 9, 0] rfl) w
  · have h := h2 g1 c1
    rw [c1] at hl
    refine lv_aload_n hx hb dX0_sets_127 rfl (lv_at hl 2 rfl) ?_
    refine lv_aload hx hb dX0_sets_128 (lv_at hl 9 rfl) ?_
    obtain ⟨hpk, h⟩ := h
    refine cr_getGp C w hpk nwF_RX0_116 dX0_sets_130 ?_
    obtain ⟨hpk, hi, h⟩ := h
    refine cr_tald C w hpk hi dX0_sets_133 ?_
    obtain ⟨h1, h2⟩ := h
    refine lv_if_ne (tgt := 158) hx hb dX0_sets_134 (by decide) (fun c1 => ?_) (fun c1 => ?_)
    · have h := h1 c1
      exact C_sets_a158 C hT18 hT57 hT67 h (lv_sub hl [1, 2, 3, 4, 5, 6, 7, 8, 9, 0] rfl) w
    · have h := h2 c1
      refine lv_aload_n hx hb dX0_sets_137 rfl (lv_at hl 2 rfl) ?_
      refine lv_aload hx hb dX0_sets_138 (lv_at hl 9 rfl) ?_
      obtain ⟨hpk, h⟩ := h
      refine cr_getGp C w hpk nwF_RX0_116 dX0_sets_140 ?_
      refine lv_iload hx hb dX0_sets_143 (lv_at hl 0 rfl) ?_
      obtain ⟨hpk, hi, h⟩ := h
      refine cr_tast C w hpk hi dX0_sets_145 (fun H locs w => ?_)
      refine lv_aload_n hx hb dX0_sets_146 rfl (lv_at hl 3 rfl) ?_
      refine lv_iload hx hb dX0_sets_147 (lv_at hl 6 rfl) ?_
      refine lv_iinc (v := _ + (1 : Int32)) (lv' := [(5, .int _), (9, .int _), (0, .ref _), (1, .ref _), (2, .ref _), (3, .int _), (4, .int _), (6, .int _), (7, .int _), (8, .ref _)]) hx hb dX0_sets_149 hl (k := 6) rfl rfl (by decide) rfl (fun ls hl => ?_)
      refine lv_aload hx hb dX0_sets_152 (lv_at hl 9 rfl) ?_
      obtain ⟨hpk, h⟩ := h
      refine cr_getGp C w hpk nwF_RX0_116 dX0_sets_154 ?_
      obtain ⟨hpk, hi, h⟩ := h
      refine cr_tast C w hpk hi dX0_sets_157 (fun H locs w => ?_)
      exact C_sets_a158 C hT18 hT57 hT67 h (lv_sub hl [2, 3, 4, 5, 6, 0, 7, 8, 9, 1] rfl) w
def C_sets_w67 (post : Int32 → CS → Prop) (T18 : Nat → Nat → Int32 → Int32 → CS → Prop) (T57 : Nat → Nat → Int32 → Int32 → Int32 → Int32 → CS → Prop) (T67 : Nat → Nat → Int32 → Int32 → Int32 → Int32 → Int32 → CS → Prop) (a1 : Nat) (a2 : Nat) (x3 : Int32) (x4 : Int32) (x5 : Int32) (x6 : Int32) (x7 : Int32) (S : CS) : Prop :=
  (((4 : Int32) ≤ x7 → T57 a1 a2 x3 x4 x5 (x6 + (1 : Int32)) S) ∧ (¬ (4 : Int32) ≤ x7 → (pk S a2 1 ∧ vp_in x6 (kN S a2) ∧ (vp_in (kT S a2 (x6).toNatClampNeg) 3 ∧ (vp_in x7 4 ∧ ((∀ g2 : Nat, (kGl S (((kT S a2 (x6).toNatClampNeg)).toNatClampNeg) (x7).toNatClampNeg) = some g2 → (pk S g2 0 ∧ C_isEvenG g2 S (fun (r3 : Int32) (S3 : CS) => ((r3 = 0 → (pk S3 a2 1 ∧ vp_in x6 (kN S3 a2) ∧ (pk S3 a1 1 ∧ vp_in (kT S3 a2 (x6).toNatClampNeg) (kN S3 a1) ∧ C_sets_w120 post T18 T57 T67 (kT S3 a1 ((kT S3 a2 (x6).toNatClampNeg)).toNatClampNeg) a1 a2 x3 x4 x5 x6 x7 (some g2) S3))) ∧ (¬ r3 = 0 → (pk S3 a2 1 ∧ vp_in x6 (kN S3 a2) ∧ (pk S3 a1 1 ∧ vp_in (kT S3 a2 (x6).toNatClampNeg) (kN S3 a1) ∧ C_sets_w120 post T18 T57 T67 (-(kT S3 a1 ((kT S3 a2 (x6).toNatClampNeg)).toNatClampNeg)) a1 a2 x3 x4 x5 x6 x7 (some g2) S3))))))) ∧ ((kGl S (((kT S a2 (x6).toNatClampNeg)).toNatClampNeg) (x7).toNatClampNeg) = none → C_sets_w120 post T18 T57 T67 (0 : Int32) a1 a2 x3 x4 x5 x6 x7 (kGl S (((kT S a2 (x6).toNatClampNeg)).toNatClampNeg) (x7).toNatClampNeg) S)))))))
set_option maxHeartbeats 4000000 in
set_option maxRecDepth 100000 in
theorem C_sets_a67 {p : Program} {l : Launch} {e : Env} {s : State} {m : MethodId} {args : Array Value} {below : List Frame} {meth : Method} {c : Code} {D : va_G} {dA : Nat → ClassId} {o : Nat → Nat} {A : Nat → Prop} {post : Int32 → CS → Prop} {T18 : Nat → Nat → Int32 → Int32 → CS → Prop} {T57 : Nat → Nat → Int32 → Int32 → Int32 → Int32 → CS → Prop} {T67 : Nat → Nat → Int32 → Int32 → Int32 → Int32 → Int32 → CS → Prop} (C : cC RX0 p m c cX0_sets 10 s args meth (Option.some Jvm.ClassFile.FieldType.int) A) (hT18 : ∀ (a1 : Nat) (a2 : Nat) (x3 : Int32) (x4 : Int32) (S : CS), T18 a1 a2 x3 x4 S → ∀ (H : Heap) (locs : List Loc) (ls : Array Slot), lv_has ls 10 [(0, .ref (o 0)), (1, .ref a1), (2, .ref a2), (3, .int x3), (4, .int x4)] → cw D dA o A s S H locs → W p l e (rC_sets) s m args below meth c H locs 2 6 (cQi below args s D dA o A (rC_sets) post) (F0 m 18 ls [])) (hT57 : ∀ (a1 : Nat) (a2 : Nat) (x3 : Int32) (x4 : Int32) (x5 : Int32) (x6 : Int32) (S : CS), T57 a1 a2 x3 x4 x5 x6 S → ∀ (H : Heap) (locs : List Loc) (ls : Array Slot), lv_has ls 10 [(0, .ref (o 0)), (1, .ref a1), (2, .ref a2), (3, .int x3), (4, .int x4), (5, .int x5), (6, .int x6)] → cw D dA o A s S H locs → W p l e (rC_sets) s m args below meth c H locs 2 6 (cQi below args s D dA o A (rC_sets) post) (F0 m 57 ls [])) (hT67 : ∀ (a1 : Nat) (a2 : Nat) (x3 : Int32) (x4 : Int32) (x5 : Int32) (x6 : Int32) (x7 : Int32) (S : CS), T67 a1 a2 x3 x4 x5 x6 x7 S → ∀ (H : Heap) (locs : List Loc) (ls : Array Slot), lv_has ls 10 [(0, .ref (o 0)), (1, .ref a1), (2, .ref a2), (3, .int x3), (4, .int x4), (5, .int x5), (6, .int x6), (7, .int x7)] → cw D dA o A s S H locs → W p l e (rC_sets) s m args below meth c H locs 2 6 (cQi below args s D dA o A (rC_sets) post) (F0 m 67 ls [])) {a1 : Nat} {a2 : Nat} {x3 : Int32} {x4 : Int32} {x5 : Int32} {x6 : Int32} {x7 : Int32} {S : CS} (h : C_sets_w67 post T18 T57 T67 a1 a2 x3 x4 x5 x6 x7 S) {H : Heap} {locs : List Loc} {ls : Array Slot} (hl : lv_has ls 10 [(0, .ref (o 0)), (1, .ref a1), (2, .ref a2), (3, .int x3), (4, .int x4), (5, .int x5), (6, .int x6), (7, .int x7)]) (w : cw D dA o A s S H locs) : W p l e (rC_sets) s m args below meth c H locs 2 6 (cQi below args s D dA o A (rC_sets) post) (F0 m 67 ls []) := by
  unfold C_sets_w67 at h
  obtain ⟨⟨hx, hb, hml, hown, hts⟩, hr, hlk, hA⟩ := id C
  refine lv_iload hx hb dX0_sets_67 (lv_at hl 7 rfl) ?_
  refine lv_iconst (v := 4) hx hb dX0_sets_69 (by decide) ?_
  obtain ⟨h1, h2⟩ := h
  refine lv_icmp_ge (tgt := 195) hx hb dX0_sets_70 (by decide) (fun c1 => ?_) (fun c1 => ?_)
  · have h := h1 c1
    refine lv_iinc (v := _ + (1 : Int32)) (lv' := [(6, .int _), (0, .ref _), (1, .ref _), (2, .ref _), (3, .int _), (4, .int _), (5, .int _), (7, .int _)]) hx hb dX0_sets_195 hl (k := 6) rfl rfl (by decide) rfl (fun ls hl => ?_)
    refine lv_goto (tgt := 57) hx hb dX0_sets_198 (by decide) ?_
    exact hT57 _ _ _ _ _ _ _ h _ _ _ (lv_sub hl [1, 2, 3, 4, 5, 6, 0] rfl) w
  · have h := h2 c1
    refine lv_aload_n hx hb dX0_sets_73 rfl (lv_at hl 0 rfl) ?_
    refine cr_get C w 0 rfl rfl in_X0 0 (by decide) q162 rfl rfl dX0_sets_74 ?_
    refine lv_aload_n hx hb dX0_sets_77 rfl (lv_at hl 2 rfl) ?_
    refine lv_iload hx hb dX0_sets_78 (lv_at hl 6 rfl) ?_
    obtain ⟨hpk, hi, h⟩ := h
    refine cr_tald C w hpk hi dX0_sets_80 ?_
    obtain ⟨hi, h⟩ := h
    have hj1 := vp_lt hi
    refine cr_gout C w hi dX0_sets_81 ?_
    refine lv_iload hx hb dX0_sets_82 (lv_at hl 7 rfl) ?_
    obtain ⟨hi, h⟩ := h
    refine cr_gin C w hj1 hi dX0_sets_84 ?_
    refine lv_astoreQ (lv' := [(8, va_rf _), (0, .ref _), (1, .ref _), (2, .ref _), (3, .int _), (4, .int _), (5, .int _), (6, .int _), (7, .int _)]) hx hb dX0_sets_85 hl (by decide) rfl (fun ls hl => ?_)
    refine lv_aloadQ hx hb dX0_sets_87 (lv_at hl 0 rfl) ?_
    obtain ⟨h1, h2⟩ := h
    refine lv_ifnonnullQ (tgt := 96) hx hb dX0_sets_89 (by decide) (fun g2 c1 => ?_) (fun c1 => ?_)
    · have h := h1 g2 c1
      rw [c1] at hl
      refine lv_aload hx hb dX0_sets_96 (lv_at hl 0 rfl) ?_
      obtain ⟨hpk, h⟩ := h
      refine cr_callVI (rest := []) (b := (fun _ => g2)) C w h (recvG w hpk) (cwV 0 hts (lw_V q394 q395 q396 q88 q397) rfl rfl rfl C_isEvenG_d ⟨Nat.le_of_ble_eq_true rfl, Nat.le_of_ble_eq_true rfl⟩) rfl hl.1 rfl (Nat.le_of_ble_eq_true rfl) ⟨Nat.le_of_ble_eq_true rfl, Nat.le_of_ble_eq_true rfl⟩ dX0_sets_98 (fun r3 S3 H locs h w => ?_)
      obtain ⟨h1, h2⟩ := h
      refine lv_if_eq (tgt := 114) hx hb dX0_sets_101 (by decide) (fun c1 => ?_) (fun c1 => ?_)
      · have h := h1 c1
        refine lv_aload_n hx hb dX0_sets_114 rfl (lv_at hl 2 rfl) ?_
        refine lv_aload_n hx hb dX0_sets_115 rfl (lv_at hl 3 rfl) ?_
        refine lv_iload hx hb dX0_sets_116 (lv_at hl 7 rfl) ?_
        obtain ⟨hpk, hi, h⟩ := h
        refine cr_tald C w hpk hi dX0_sets_118 ?_
        obtain ⟨hpk, hi, h⟩ := h
        refine cr_tald C w hpk hi dX0_sets_119 ?_
        exact C_sets_a120 C hT18 hT57 hT67 h (lv_sub hl [1, 2, 3, 4, 5, 6, 7, 8, 0] rfl) w
      · have h := h2 c1
        refine lv_aload_n hx hb dX0_sets_104 rfl (lv_at hl 2 rfl) ?_
        refine lv_aload_n hx hb dX0_sets_105 rfl (lv_at hl 3 rfl) ?_
        refine lv_iload hx hb dX0_sets_106 (lv_at hl 7 rfl) ?_
        obtain ⟨hpk, hi, h⟩ := h
        refine cr_tald C w hpk hi dX0_sets_108 ?_
        obtain ⟨hpk, hi, h⟩ := h
        refine cr_tald C w hpk hi dX0_sets_109 ?_
        refine lv_ineg hx hb dX0_sets_110 ?_
        refine lv_goto (tgt := 120) hx hb dX0_sets_111 (by decide) ?_
        exact C_sets_a120 C hT18 hT57 hT67 h (lv_sub hl [1, 2, 3, 4, 5, 6, 7, 8, 0] rfl) w
    · have h := h2 c1
      refine lv_iconst (v := 0) hx hb dX0_sets_92 (by decide) ?_
      refine lv_goto (tgt := 120) hx hb dX0_sets_93 (by decide) ?_
      exact C_sets_a120 C hT18 hT57 hT67 h (lv_sub hl [1, 2, 3, 4, 5, 6, 7, 8, 0] rfl) w
def C_sets_w57 (post : Int32 → CS → Prop) (T18 : Nat → Nat → Int32 → Int32 → CS → Prop) (T57 : Nat → Nat → Int32 → Int32 → Int32 → Int32 → CS → Prop) (T67 : Nat → Nat → Int32 → Int32 → Int32 → Int32 → Int32 → CS → Prop) (a1 : Nat) (a2 : Nat) (x3 : Int32) (x4 : Int32) (x5 : Int32) (x6 : Int32) (S : CS) : Prop :=
  ((x5 ≤ x6 → T18 a1 a2 x3 (x4 + (1 : Int32)) S) ∧ (¬ x5 ≤ x6 → T67 a1 a2 x3 x4 x5 x6 (0 : Int32) S))
set_option maxHeartbeats 4000000 in
set_option maxRecDepth 100000 in
theorem C_sets_a57 {p : Program} {l : Launch} {e : Env} {s : State} {m : MethodId} {args : Array Value} {below : List Frame} {meth : Method} {c : Code} {D : va_G} {dA : Nat → ClassId} {o : Nat → Nat} {A : Nat → Prop} {post : Int32 → CS → Prop} {T18 : Nat → Nat → Int32 → Int32 → CS → Prop} {T57 : Nat → Nat → Int32 → Int32 → Int32 → Int32 → CS → Prop} {T67 : Nat → Nat → Int32 → Int32 → Int32 → Int32 → Int32 → CS → Prop} (C : cC RX0 p m c cX0_sets 10 s args meth (Option.some Jvm.ClassFile.FieldType.int) A) (hT18 : ∀ (a1 : Nat) (a2 : Nat) (x3 : Int32) (x4 : Int32) (S : CS), T18 a1 a2 x3 x4 S → ∀ (H : Heap) (locs : List Loc) (ls : Array Slot), lv_has ls 10 [(0, .ref (o 0)), (1, .ref a1), (2, .ref a2), (3, .int x3), (4, .int x4)] → cw D dA o A s S H locs → W p l e (rC_sets) s m args below meth c H locs 2 6 (cQi below args s D dA o A (rC_sets) post) (F0 m 18 ls [])) (hT57 : ∀ (a1 : Nat) (a2 : Nat) (x3 : Int32) (x4 : Int32) (x5 : Int32) (x6 : Int32) (S : CS), T57 a1 a2 x3 x4 x5 x6 S → ∀ (H : Heap) (locs : List Loc) (ls : Array Slot), lv_has ls 10 [(0, .ref (o 0)), (1, .ref a1), (2, .ref a2), (3, .int x3), (4, .int x4), (5, .int x5), (6, .int x6)] → cw D dA o A s S H locs → W p l e (rC_sets) s m args below meth c H locs 2 6 (cQi below args s D dA o A (rC_sets) post) (F0 m 57 ls [])) (hT67 : ∀ (a1 : Nat) (a2 : Nat) (x3 : Int32) (x4 : Int32) (x5 : Int32) (x6 : Int32) (x7 : Int32) (S : CS), T67 a1 a2 x3 x4 x5 x6 x7 S → ∀ (H : Heap) (locs : List Loc) (ls : Array Slot), lv_has ls 10 [(0, .ref (o 0)), (1, .ref a1), (2, .ref a2), (3, .int x3), (4, .int x4), (5, .int x5), (6, .int x6), (7, .int x7)] → cw D dA o A s S H locs → W p l e (rC_sets) s m args below meth c H locs 2 6 (cQi below args s D dA o A (rC_sets) post) (F0 m 67 ls [])) {a1 : Nat} {a2 : Nat} {x3 : Int32} {x4 : Int32} {x5 : Int32} {x6 : Int32} {S : CS} (h : C_sets_w57 post T18 T57 T67 a1 a2 x3 x4 x5 x6 S) {H : Heap} {locs : List Loc} {ls : Array Slot} (hl : lv_has ls 10 [(0, .ref (o 0)), (1, .ref a1), (2, .ref a2), (3, .int x3), (4, .int x4), (5, .int x5), (6, .int x6)]) (w : cw D dA o A s S H locs) : W p l e (rC_sets) s m args below meth c H locs 2 6 (cQi below args s D dA o A (rC_sets) post) (F0 m 57 ls []) := by
  unfold C_sets_w57 at h
  obtain ⟨⟨hx, hb, hml, hown, hts⟩, hr, hlk, hA⟩ := id C
  refine lv_iload hx hb dX0_sets_57 (lv_at hl 6 rfl) ?_
  refine lv_iload hx hb dX0_sets_59 (lv_at hl 5 rfl) ?_
  obtain ⟨h1, h2⟩ := h
  refine lv_icmp_ge (tgt := 201) hx hb dX0_sets_61 (by decide) (fun c1 => ?_) (fun c1 => ?_)
  · have h := h1 c1
    refine lv_iinc (v := _ + (1 : Int32)) (lv' := [(4, .int _), (0, .ref _), (1, .ref _), (2, .ref _), (3, .int _), (5, .int _), (6, .int _)]) hx hb dX0_sets_201 hl (k := 4) rfl rfl (by decide) rfl (fun ls hl => ?_)
    refine lv_goto (tgt := 18) hx hb dX0_sets_204 (by decide) ?_
    exact hT18 _ _ _ _ _ h _ _ _ (lv_sub hl [1, 2, 3, 4, 0] rfl) w
  · have h := h2 c1
    refine lv_iconst (v := 0) hx hb dX0_sets_64 (by decide) ?_
    refine lv_istore (lv' := [(7, .int _), (0, .ref _), (1, .ref _), (2, .ref _), (3, .int _), (4, .int _), (5, .int _), (6, .int _)]) hx hb dX0_sets_65 hl (by decide) rfl (fun ls hl => ?_)
    exact hT67 _ _ _ _ _ _ _ _ h _ _ _ (lv_sub hl [1, 2, 3, 4, 5, 6, 7, 0] rfl) w
def C_sets_w54 (post : Int32 → CS → Prop) (T18 : Nat → Nat → Int32 → Int32 → CS → Prop) (T57 : Nat → Nat → Int32 → Int32 → Int32 → Int32 → CS → Prop) (T67 : Nat → Nat → Int32 → Int32 → Int32 → Int32 → Int32 → CS → Prop) (a1 : Nat) (a2 : Nat) (x3 : Int32) (x4 : Int32) (x5 : Int32) (S : CS) : Prop :=
  T57 a1 a2 x3 x4 x5 (0 : Int32) S
set_option maxHeartbeats 4000000 in
set_option maxRecDepth 100000 in
theorem C_sets_a54 {p : Program} {l : Launch} {e : Env} {s : State} {m : MethodId} {args : Array Value} {below : List Frame} {meth : Method} {c : Code} {D : va_G} {dA : Nat → ClassId} {o : Nat → Nat} {A : Nat → Prop} {post : Int32 → CS → Prop} {T18 : Nat → Nat → Int32 → Int32 → CS → Prop} {T57 : Nat → Nat → Int32 → Int32 → Int32 → Int32 → CS → Prop} {T67 : Nat → Nat → Int32 → Int32 → Int32 → Int32 → Int32 → CS → Prop} (C : cC RX0 p m c cX0_sets 10 s args meth (Option.some Jvm.ClassFile.FieldType.int) A) (hT18 : ∀ (a1 : Nat) (a2 : Nat) (x3 : Int32) (x4 : Int32) (S : CS), T18 a1 a2 x3 x4 S → ∀ (H : Heap) (locs : List Loc) (ls : Array Slot), lv_has ls 10 [(0, .ref (o 0)), (1, .ref a1), (2, .ref a2), (3, .int x3), (4, .int x4)] → cw D dA o A s S H locs → W p l e (rC_sets) s m args below meth c H locs 2 6 (cQi below args s D dA o A (rC_sets) post) (F0 m 18 ls [])) (hT57 : ∀ (a1 : Nat) (a2 : Nat) (x3 : Int32) (x4 : Int32) (x5 : Int32) (x6 : Int32) (S : CS), T57 a1 a2 x3 x4 x5 x6 S → ∀ (H : Heap) (locs : List Loc) (ls : Array Slot), lv_has ls 10 [(0, .ref (o 0)), (1, .ref a1), (2, .ref a2), (3, .int x3), (4, .int x4), (5, .int x5), (6, .int x6)] → cw D dA o A s S H locs → W p l e (rC_sets) s m args below meth c H locs 2 6 (cQi below args s D dA o A (rC_sets) post) (F0 m 57 ls [])) (hT67 : ∀ (a1 : Nat) (a2 : Nat) (x3 : Int32) (x4 : Int32) (x5 : Int32) (x6 : Int32) (x7 : Int32) (S : CS), T67 a1 a2 x3 x4 x5 x6 x7 S → ∀ (H : Heap) (locs : List Loc) (ls : Array Slot), lv_has ls 10 [(0, .ref (o 0)), (1, .ref a1), (2, .ref a2), (3, .int x3), (4, .int x4), (5, .int x5), (6, .int x6), (7, .int x7)] → cw D dA o A s S H locs → W p l e (rC_sets) s m args below meth c H locs 2 6 (cQi below args s D dA o A (rC_sets) post) (F0 m 67 ls [])) {a1 : Nat} {a2 : Nat} {x3 : Int32} {x4 : Int32} {x5 : Int32} {S : CS} (h : C_sets_w54 post T18 T57 T67 a1 a2 x3 x4 x5 S) {H : Heap} {locs : List Loc} {ls : Array Slot} (hl : lv_has ls 10 [(0, .ref (o 0)), (1, .ref a1), (2, .ref a2), (3, .int x3), (4, .int x4), (5, .int x5)]) (w : cw D dA o A s S H locs) : W p l e (rC_sets) s m args below meth c H locs 2 6 (cQi below args s D dA o A (rC_sets) post) (F0 m 54 ls []) := by
  unfold C_sets_w54 at h
  obtain ⟨⟨hx, hb, hml, hown, hts⟩, hr, hlk, hA⟩ := id C
  refine lv_iconst (v := 0) hx hb dX0_sets_54 (by decide) ?_
  refine lv_istore (lv' := [(6, .int _), (0, .ref _), (1, .ref _), (2, .ref _), (3, .int _), (4, .int _), (5, .int _)]) hx hb dX0_sets_55 hl (by decide) rfl (fun ls hl => ?_)
  exact hT57 _ _ _ _ _ _ _ h _ _ _ (lv_sub hl [1, 2, 3, 4, 5, 6, 0] rfl) w
def C_sets_w18 (post : Int32 → CS → Prop) (T18 : Nat → Nat → Int32 → Int32 → CS → Prop) (T57 : Nat → Nat → Int32 → Int32 → Int32 → Int32 → CS → Prop) (T67 : Nat → Nat → Int32 → Int32 → Int32 → Int32 → Int32 → CS → Prop) (a1 : Nat) (a2 : Nat) (x3 : Int32) (x4 : Int32) (S : CS) : Prop :=
  (((kF S 1) ≤ x4 → post x3 S) ∧ (¬ (kF S 1) ≤ x4 → (pk S a1 1 ∧ vp_in x4 (kN S a1) ∧ ((¬ (kT S a1 (x4).toNatClampNeg) = 0 → C_sets_w54 post T18 T57 T67 a1 a2 x3 x4 (0 : Int32) S) ∧ ((kT S a1 (x4).toNatClampNeg) = 0 → (pk S a1 1 ∧ vp_in x4 (kN S a1) ∧ (fun (S1 : CS) => (pk S1 a2 1 ∧ vp_in (0 : Int32) (kN S1 a2) ∧ (fun (S2 : CS) => C_sets_w54 post T18 T57 T67 a1 a2 (x3 + (1 : Int32)) x4 ((0 : Int32) + (1 : Int32)) S2) (tT S1 a2 ((0 : Int32)).toNatClampNeg x4))) (tT S a1 (x4).toNatClampNeg (1 : Int32))))))))
set_option maxHeartbeats 4000000 in
set_option maxRecDepth 100000 in
theorem C_sets_a18 {p : Program} {l : Launch} {e : Env} {s : State} {m : MethodId} {args : Array Value} {below : List Frame} {meth : Method} {c : Code} {D : va_G} {dA : Nat → ClassId} {o : Nat → Nat} {A : Nat → Prop} {post : Int32 → CS → Prop} {T18 : Nat → Nat → Int32 → Int32 → CS → Prop} {T57 : Nat → Nat → Int32 → Int32 → Int32 → Int32 → CS → Prop} {T67 : Nat → Nat → Int32 → Int32 → Int32 → Int32 → Int32 → CS → Prop} (C : cC RX0 p m c cX0_sets 10 s args meth (Option.some Jvm.ClassFile.FieldType.int) A) (hT18 : ∀ (a1 : Nat) (a2 : Nat) (x3 : Int32) (x4 : Int32) (S : CS), T18 a1 a2 x3 x4 S → ∀ (H : Heap) (locs : List Loc) (ls : Array Slot), lv_has ls 10 [(0, .ref (o 0)), (1, .ref a1), (2, .ref a2), (3, .int x3), (4, .int x4)] → cw D dA o A s S H locs → W p l e (rC_sets) s m args below meth c H locs 2 6 (cQi below args s D dA o A (rC_sets) post) (F0 m 18 ls [])) (hT57 : ∀ (a1 : Nat) (a2 : Nat) (x3 : Int32) (x4 : Int32) (x5 : Int32) (x6 : Int32) (S : CS), T57 a1 a2 x3 x4 x5 x6 S → ∀ (H : Heap) (locs : List Loc) (ls : Array Slot), lv_has ls 10 [(0, .ref (o 0)), (1, .ref a1), (2, .ref a2), (3, .int x3), (4, .int x4), (5, .int x5), (6, .int x6)] → cw D dA o A s S H locs → W p l e (rC_sets) s m args below meth c H locs 2 6 (cQi below args s D dA o A (rC_sets) post) (F0 m 57 ls [])) (hT67 : ∀ (a1 : Nat) (a2 : Nat) (x3 : Int32) (x4 : Int32) (x5 : Int32) (x6 : Int32) (x7 : Int32) (S : CS), T67 a1 a2 x3 x4 x5 x6 x7 S → ∀ (H : Heap) (locs : List Loc) (ls : Array Slot), lv_has ls 10 [(0, .ref (o 0)), (1, .ref a1), (2, .ref a2), (3, .int x3), (4, .int x4), (5, .int x5), (6, .int x6), (7, .int x7)] → cw D dA o A s S H locs → W p l e (rC_sets) s m args below meth c H locs 2 6 (cQi below args s D dA o A (rC_sets) post) (F0 m 67 ls [])) {a1 : Nat} {a2 : Nat} {x3 : Int32} {x4 : Int32} {S : CS} (h : C_sets_w18 post T18 T57 T67 a1 a2 x3 x4 S) {H : Heap} {locs : List Loc} {ls : Array Slot} (hl : lv_has ls 10 [(0, .ref (o 0)), (1, .ref a1), (2, .ref a2), (3, .int x3), (4, .int x4)]) (w : cw D dA o A s S H locs) : W p l e (rC_sets) s m args below meth c H locs 2 6 (cQi below args s D dA o A (rC_sets) post) (F0 m 18 ls []) := by
  unfold C_sets_w18 at h
  obtain ⟨⟨hx, hb, hml, hown, hts⟩, hr, hlk, hA⟩ := id C
  refine lv_iload hx hb dX0_sets_18 (lv_at hl 4 rfl) ?_
  refine lv_aload_n hx hb dX0_sets_20 rfl (lv_at hl 0 rfl) ?_
  refine cr_get C w 0 rfl rfl in_X0 1 (by decide) q164 rfl rfl dX0_sets_21 ?_
  obtain ⟨h1, h2⟩ := h
  refine lv_icmp_ge (tgt := 207) hx hb dX0_sets_24 (by decide) (fun c1 => ?_) (fun c1 => ?_)
  · have h := h1 c1
    refine lv_iload_n hx hb dX0_sets_207 rfl (lv_at hl 3 rfl) ?_
    exact cr_iret C w h (Nat.le_of_ble_eq_true rfl) (Nat.le_of_ble_eq_true rfl) dX0_sets_208
  · have h := h2 c1
    refine lv_iconst (v := 0) hx hb dX0_sets_27 (by decide) ?_
    refine lv_istore (lv' := [(5, .int _), (0, .ref _), (1, .ref _), (2, .ref _), (3, .int _), (4, .int _)]) hx hb dX0_sets_28 hl (by decide) rfl (fun ls hl => ?_)
    refine lv_aload_n hx hb dX0_sets_30 rfl (lv_at hl 2 rfl) ?_
    refine lv_iload hx hb dX0_sets_31 (lv_at hl 5 rfl) ?_
    obtain ⟨hpk, hi, h⟩ := h
    refine cr_tald C w hpk hi dX0_sets_33 ?_
    obtain ⟨h1, h2⟩ := h
    refine lv_if_ne (tgt := 54) hx hb dX0_sets_34 (by decide) (fun c1 => ?_) (fun c1 => ?_)
    · have h := h1 c1
      exact C_sets_a54 C hT18 hT57 hT67 h (lv_sub hl [1, 2, 3, 4, 5, 0] rfl) w
    · have h := h2 c1
      refine lv_aload_n hx hb dX0_sets_37 rfl (lv_at hl 2 rfl) ?_
      refine lv_iload hx hb dX0_sets_38 (lv_at hl 5 rfl) ?_
      refine lv_iconst (v := 1) hx hb dX0_sets_40 (by decide) ?_
      obtain ⟨hpk, hi, h⟩ := h
      refine cr_tast C w hpk hi dX0_sets_41 (fun H locs w => ?_)
      refine lv_aload_n hx hb dX0_sets_42 rfl (lv_at hl 3 rfl) ?_
      refine lv_iload hx hb dX0_sets_43 (lv_at hl 0 rfl) ?_
      refine lv_iinc (v := _ + (1 : Int32)) (lv' := [(5, .int _), (0, .ref _), (1, .ref _), (2, .ref _), (3, .int _), (4, .int _)]) hx hb dX0_sets_45 hl (k := 0) rfl rfl (by decide) rfl (fun ls hl => ?_)
      refine lv_iload hx hb dX0_sets_48 (lv_at hl 5 rfl) ?_
      obtain ⟨hpk, hi, h⟩ := h
      refine cr_tast C w hpk hi dX0_sets_50 (fun H locs w => ?_)
      refine lv_iinc (v := _ + (1 : Int32)) (lv' := [(3, .int _), (5, .int _), (0, .ref _), (1, .ref _), (2, .ref _), (4, .int _)]) hx hb dX0_sets_51 hl (k := 4) rfl rfl (by decide) rfl (fun ls hl => ?_)
      exact C_sets_a54 C hT18 hT57 hT67 h (lv_sub hl [2, 3, 4, 0, 5, 1] rfl) w
def C_sets_w0 (post : Int32 → CS → Prop) (T18 : Nat → Nat → Int32 → Int32 → CS → Prop) (T57 : Nat → Nat → Int32 → Int32 → Int32 → Int32 → CS → Prop) (T67 : Nat → Nat → Int32 → Int32 → Int32 → Int32 → Int32 → CS → Prop) (S : CS) : Prop :=
  (∀ q1 : Nat, q1 ∉ kLP S → (fun (S1 : CS) => (∀ q2 : Nat, q2 ∉ kLP S1 → (fun (S2 : CS) => (fun (S3 : CS) => T18 q1 q2 (0 : Int32) (0 : Int32) S3) (tF S2 5 (1 : Int32))) (nT S1 q2 ((3 : Int32)).toNatClampNeg))) (nT S q1 ((3 : Int32)).toNatClampNeg))
set_option maxHeartbeats 4000000 in
set_option maxRecDepth 100000 in
theorem C_sets_a0 {p : Program} {l : Launch} {e : Env} {s : State} {m : MethodId} {args : Array Value} {below : List Frame} {meth : Method} {c : Code} {D : va_G} {dA : Nat → ClassId} {o : Nat → Nat} {A : Nat → Prop} {post : Int32 → CS → Prop} {T18 : Nat → Nat → Int32 → Int32 → CS → Prop} {T57 : Nat → Nat → Int32 → Int32 → Int32 → Int32 → CS → Prop} {T67 : Nat → Nat → Int32 → Int32 → Int32 → Int32 → Int32 → CS → Prop} (C : cC RX0 p m c cX0_sets 10 s args meth (Option.some Jvm.ClassFile.FieldType.int) A) (hT18 : ∀ (a1 : Nat) (a2 : Nat) (x3 : Int32) (x4 : Int32) (S : CS), T18 a1 a2 x3 x4 S → ∀ (H : Heap) (locs : List Loc) (ls : Array Slot), lv_has ls 10 [(0, .ref (o 0)), (1, .ref a1), (2, .ref a2), (3, .int x3), (4, .int x4)] → cw D dA o A s S H locs → W p l e (rC_sets) s m args below meth c H locs 2 6 (cQi below args s D dA o A (rC_sets) post) (F0 m 18 ls [])) (hT57 : ∀ (a1 : Nat) (a2 : Nat) (x3 : Int32) (x4 : Int32) (x5 : Int32) (x6 : Int32) (S : CS), T57 a1 a2 x3 x4 x5 x6 S → ∀ (H : Heap) (locs : List Loc) (ls : Array Slot), lv_has ls 10 [(0, .ref (o 0)), (1, .ref a1), (2, .ref a2), (3, .int x3), (4, .int x4), (5, .int x5), (6, .int x6)] → cw D dA o A s S H locs → W p l e (rC_sets) s m args below meth c H locs 2 6 (cQi below args s D dA o A (rC_sets) post) (F0 m 57 ls [])) (hT67 : ∀ (a1 : Nat) (a2 : Nat) (x3 : Int32) (x4 : Int32) (x5 : Int32) (x6 : Int32) (x7 : Int32) (S : CS), T67 a1 a2 x3 x4 x5 x6 x7 S → ∀ (H : Heap) (locs : List Loc) (ls : Array Slot), lv_has ls 10 [(0, .ref (o 0)), (1, .ref a1), (2, .ref a2), (3, .int x3), (4, .int x4), (5, .int x5), (6, .int x6), (7, .int x7)] → cw D dA o A s S H locs → W p l e (rC_sets) s m args below meth c H locs 2 6 (cQi below args s D dA o A (rC_sets) post) (F0 m 67 ls [])) {S : CS} (h : C_sets_w0 post T18 T57 T67 S) {H : Heap} {locs : List Loc} {ls : Array Slot} (hl : lv_has ls 10 [(0, .ref (o 0))]) (w : cw D dA o A s S H locs) : W p l e (rC_sets) s m args below meth c H locs 0 0 (cQi below args s D dA o A (rC_sets) post) (F0 m 0 ls []) := by
  unfold C_sets_w0 at h
  obtain ⟨⟨hx, hb, hml, hown, hts⟩, hr, hlk, hA⟩ := id C
  refine lv_iconst (v := 3) hx hb dX0_sets_0 (by decide) ?_
  refine cr_newT C w (by decide) (Nat.le_of_ble_eq_true rfl) (Nat.le_of_ble_eq_true rfl) (Nat.le_of_ble_eq_true rfl) dX0_sets_1 (fun q1 H hq w => ?_)
  have h := h _ hq
  refine W.widen (k := 1) (n := 3) (Nat.le_of_ble_eq_true rfl) (Nat.le_of_ble_eq_true rfl) ?_
  refine lv_astore_n (lv' := [(1, .ref _), (0, .ref _)]) hx hb dX0_sets_3 rfl hl (by decide) rfl (fun ls hl => ?_)
  refine lv_iconst (v := 3) hx hb dX0_sets_4 (by decide) ?_
  refine cr_newT C w (by decide) (Nat.le_of_ble_eq_true rfl) (Nat.le_of_ble_eq_true rfl) (Nat.le_of_ble_eq_true rfl) dX0_sets_5 (fun q2 H hq w => ?_)
  have h := h _ hq
  refine W.widen (k := 2) (n := 6) (Nat.le_of_ble_eq_true rfl) (Nat.le_of_ble_eq_true rfl) ?_
  refine lv_astore_n (lv' := [(2, .ref _), (1, .ref _), (0, .ref _)]) hx hb dX0_sets_7 rfl hl (by decide) rfl (fun ls hl => ?_)
  refine lv_iconst (v := 0) hx hb dX0_sets_8 (by decide) ?_
  refine lv_istore_n (lv' := [(3, .int _), (2, .ref _), (1, .ref _), (0, .ref _)]) hx hb dX0_sets_9 rfl hl (by decide) rfl (fun ls hl => ?_)
  refine lv_aload_n hx hb dX0_sets_10 rfl (lv_at hl 3 rfl) ?_
  refine lv_iconst (v := 1) hx hb dX0_sets_11 (by decide) ?_
  refine cr_put (ty := .boolean) C w 5 (by decide) q169 rfl rfl (by decide +kernel) rfl rfl CWf_5 dX0_sets_12 (fun H locs w => ?_)
  refine lv_iconst (v := 0) hx hb dX0_sets_15 (by decide) ?_
  refine lv_istore (lv' := [(4, .int _), (3, .int _), (2, .ref _), (1, .ref _), (0, .ref _)]) hx hb dX0_sets_16 hl (by decide) rfl (fun ls hl => ?_)
  exact hT18 _ _ _ _ _ h _ _ _ (lv_sub hl [4, 3, 2, 1, 0] rfl) w
def C_sets_VC (S : CS) (post : Int32 → CS → Prop) : Prop := ∀ (T18 : Nat → Nat → Int32 → Int32 → CS → Prop) (T57 : Nat → Nat → Int32 → Int32 → Int32 → Int32 → CS → Prop) (T67 : Nat → Nat → Int32 → Int32 → Int32 → Int32 → Int32 → CS → Prop), (∀ (a1 : Nat) (a2 : Nat) (x3 : Int32) (x4 : Int32) (S : CS), C_sets_w18 post T18 T57 T67 a1 a2 x3 x4 S → T18 a1 a2 x3 x4 S) → (∀ (a1 : Nat) (a2 : Nat) (x3 : Int32) (x4 : Int32) (x5 : Int32) (x6 : Int32) (S : CS), C_sets_w57 post T18 T57 T67 a1 a2 x3 x4 x5 x6 S → T57 a1 a2 x3 x4 x5 x6 S) → (∀ (a1 : Nat) (a2 : Nat) (x3 : Int32) (x4 : Int32) (x5 : Int32) (x6 : Int32) (x7 : Int32) (S : CS), C_sets_w67 post T18 T57 T67 a1 a2 x3 x4 x5 x6 x7 S → T67 a1 a2 x3 x4 x5 x6 x7 S) → C_sets_w0 post T18 T57 T67 S
theorem C_sets_ok {S : CS} {post : Int32 → CS → Prop} (h : C_sets_VC S post) : C_sets S post := by
  intro l D dA o sz
  refine cr_start (fun A => va_Qi post (cB D dA o A) A) rfl (Nat.le_of_ble_eq_true rfl) (by decide) ?_
  intro p e s m args below meth c ls A C w hl
  have hl : lv_has ls 10 [(0, .ref (o 0))] := hl
  have h := h (fun (a1 : Nat) (a2 : Nat) (x3 : Int32) (x4 : Int32) S => ∀ (H : Heap) (locs : List Loc) (ls : Array Slot), lv_has ls 10 [(0, .ref (o 0)), (1, .ref a1), (2, .ref a2), (3, .int x3), (4, .int x4)] → cw D dA o A s S H locs → W p l e (rC_sets) s m args below meth c H locs 2 6 (cQi below args s D dA o A (rC_sets) post) (F0 m 18 ls [])) (fun (a1 : Nat) (a2 : Nat) (x3 : Int32) (x4 : Int32) (x5 : Int32) (x6 : Int32) S => ∀ (H : Heap) (locs : List Loc) (ls : Array Slot), lv_has ls 10 [(0, .ref (o 0)), (1, .ref a1), (2, .ref a2), (3, .int x3), (4, .int x4), (5, .int x5), (6, .int x6)] → cw D dA o A s S H locs → W p l e (rC_sets) s m args below meth c H locs 2 6 (cQi below args s D dA o A (rC_sets) post) (F0 m 57 ls [])) (fun (a1 : Nat) (a2 : Nat) (x3 : Int32) (x4 : Int32) (x5 : Int32) (x6 : Int32) (x7 : Int32) S => ∀ (H : Heap) (locs : List Loc) (ls : Array Slot), lv_has ls 10 [(0, .ref (o 0)), (1, .ref a1), (2, .ref a2), (3, .int x3), (4, .int x4), (5, .int x5), (6, .int x6), (7, .int x7)] → cw D dA o A s S H locs → W p l e (rC_sets) s m args below meth c H locs 2 6 (cQi below args s D dA o A (rC_sets) post) (F0 m 67 ls [])) (fun _ _ _ _ S h H locs ls hl w => C_sets_a18 C (fun _ _ _ _ _ h => h) (fun _ _ _ _ _ _ _ h => h) (fun _ _ _ _ _ _ _ _ h => h) h hl w) (fun _ _ _ _ _ _ S h H locs ls hl w => C_sets_a57 C (fun _ _ _ _ _ h => h) (fun _ _ _ _ _ _ _ h => h) (fun _ _ _ _ _ _ _ _ h => h) h hl w) (fun _ _ _ _ _ _ _ S h H locs ls hl w => C_sets_a67 C (fun _ _ _ _ _ h => h) (fun _ _ _ _ _ _ _ h => h) (fun _ _ _ _ _ _ _ _ h => h) h hl w)
  exact C_sets_a0 C (fun _ _ _ _ _ h => h) (fun _ _ _ _ _ _ _ h => h) (fun _ _ _ _ _ _ _ _ h => h) h (lv_sub hl [0] rfl) w
