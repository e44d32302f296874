/-! ThirdSheets.isBeside(II)Z -/
def C_isBeside_w86 (post : Int32 → CS → Prop) (T30 : Int32 → Int32 → Int32 → Int32 → Int32 → CS → Prop) (x4 : Int32) (S : CS) : Prop :=
  (zok x4 ∧ post x4 S)
set_option maxHeartbeats 4000000 in
set_option maxRecDepth 100000 in
theorem C_isBeside_a86 {p : Program} {l : Launch} {e : Env} {s : State} {m : MethodId} {args : Array Value} {below : List Frame} {meth : Method} {c : Code} {D : va_G} {dA : Nat → ClassId} {o : Nat → Nat} {A : Nat → Prop} {post : Int32 → CS → Prop} {T30 : Int32 → Int32 → Int32 → Int32 → Int32 → CS → Prop} (C : cC RX0 p m c cX0_isBeside 6 s args meth (Option.some Jvm.ClassFile.FieldType.boolean) A) (hT30 : ∀ (x1 : Int32) (x2 : Int32) (x3 : Int32) (x4 : Int32) (x5 : Int32) (S : CS), T30 x1 x2 x3 x4 x5 S → ∀ (H : Heap) (locs : List Loc) (ls : Array Slot), lv_has ls 6 [(0, .ref (o 0)), (1, .int x1), (2, .int x2), (3, .int x3), (4, .int x4), (5, .int x5)] → cw D dA o A s S H locs → W p l e (rC_isBeside) s m args below meth c H locs 0 0 (cQi below args s D dA o A (rC_isBeside) post) (F0 m 30 ls [])) {x4 : Int32} {S : CS} (h : C_isBeside_w86 post T30 x4 S) {H : Heap} {locs : List Loc} {ls : Array Slot} (hl : lv_has ls 6 [(0, .ref (o 0)), (4, .int x4)]) (w : cw D dA o A s S H locs) : W p l e (rC_isBeside) s m args below meth c H locs 0 0 (cQi below args s D dA o A (rC_isBeside) post) (F0 m 86 ls []) := by
  unfold C_isBeside_w86 at h
  obtain ⟨⟨hx, hb, hml, hown, hts⟩, hr, hlk, hA⟩ := id C
  refine lv_iload hx hb dX0_isBeside_86 (lv_at hl 1 rfl) ?_
  exact cr_zret C w (zok_n h.1) h.2 (Nat.le_of_ble_eq_true rfl) (Nat.le_of_ble_eq_true rfl) dX0_isBeside_88
def C_isBeside_w78 (post : Int32 → CS → Prop) (T30 : Int32 → Int32 → Int32 → Int32 → Int32 → CS → Prop) (v0 : Int32) (x1 : Int32) (x2 : Int32) (x3 : Int32) (x5 : Int32) (S : CS) : Prop :=
  T30 x1 x2 x3 v0 (x5 + (1 : Int32)) S
set_option maxHeartbeats 4000000 in
set_option maxRecDepth 100000 in
theorem C_isBeside_a78 {p : Program} {l : Launch} {e : Env} {s : State} {m : MethodId} {args : Array Value} {below : List Frame} {meth : Method} {c : Code} {D : va_G} {dA : Nat → ClassId} {o : Nat → Nat} {A : Nat → Prop} {post : Int32 → CS → Prop} {T30 : Int32 → Int32 → Int32 → Int32 → Int32 → CS → Prop} (C : cC RX0 p m c cX0_isBeside 6 s args meth (Option.some Jvm.ClassFile.FieldType.boolean) A) (hT30 : ∀ (x1 : Int32) (x2 : Int32) (x3 : Int32) (x4 : Int32) (x5 : Int32) (S : CS), T30 x1 x2 x3 x4 x5 S → ∀ (H : Heap) (locs : List Loc) (ls : Array Slot), lv_has ls 6 [(0, .ref (o 0)), (1, .int x1), (2, .int x2), (3, .int x3), (4, .int x4), (5, .int x5)] → cw D dA o A s S H locs → W p l e (rC_isBeside) s m args below meth c H locs 0 0 (cQi below args s D dA o A (rC_isBeside) post) (F0 m 30 ls [])) {v0 : Int32} {x1 : Int32} {x2 : Int32} {x3 : Int32} {x5 : Int32} {S : CS} (h : C_isBeside_w78 post T30 v0 x1 x2 x3 x5 S) {H : Heap} {locs : List Loc} {ls : Array Slot} (hl : lv_has ls 6 [(0, .ref (o 0)), (1, .int x1), (2, .int x2), (3, .int x3), (5, .int x5)]) (w : cw D dA o A s S H locs) : W p l e (rC_isBeside) s m args below meth c H locs 0 0 (cQi below args s D dA o A (rC_isBeside) post) (F0 m 78 ls [.int v0]) := by
  unfold C_isBeside_w78 at h
  obtain ⟨⟨hx, hb, hml, hown, hts⟩, hr, hlk, hA⟩ := id C
  refine lv_istore (lv' := [(4, .int _), (0, .ref _), (1, .int _), (2, .int _), (3, .int _), (5, .int _)]) hx hb dX0_isBeside_78 hl (by decide) rfl (fun ls hl => ?_)
  refine lv_iinc (v := _ + (1 : Int32)) (lv' := [(5, .int _), (4, .int _), (0, .ref _), (1, .int _), (2, .int _), (3, .int _)]) hx hb dX0_isBeside_80 hl (k := 5) rfl rfl (by decide) rfl (fun ls hl => ?_)
  refine lv_goto (tgt := 30) hx hb dX0_isBeside_83 (by decide) ?_
  exact hT30 _ _ _ _ _ _ h _ _ _ (lv_sub hl [2, 3, 4, 5, 1, 0] rfl) w
def C_isBeside_w73 (post : Int32 → CS → Prop) (T30 : Int32 → Int32 → Int32 → Int32 → Int32 → CS → Prop) (x1 : Int32) (x2 : Int32) (x3 : Int32) (x5 : Int32) (S : CS) : Prop :=
  C_isBeside_w78 post T30 (1 : Int32) x1 x2 x3 x5 S
set_option maxHeartbeats 4000000 in
set_option maxRecDepth 100000 in
theorem C_isBeside_a73 {p : Program} {l : Launch} {e : Env} {s : State} {m : MethodId} {args : Array Value} {below : List Frame} {meth : Method} {c : Code} {D : va_G} {dA : Nat → ClassId} {o : Nat → Nat} {A : Nat → Prop} {post : Int32 → CS → Prop} {T30 : Int32 → Int32 → Int32 → Int32 → Int32 → CS → Prop} (C : cC RX0 p m c cX0_isBeside 6 s args meth (Option.some Jvm.ClassFile.FieldType.boolean) A) (hT30 : ∀ (x1 : Int32) (x2 : Int32) (x3 : Int32) (x4 : Int32) (x5 : Int32) (S : CS), T30 x1 x2 x3 x4 x5 S → ∀ (H : Heap) (locs : List Loc) (ls : Array Slot), lv_has ls 6 [(0, .ref (o 0)), (1, .int x1), (2, .int x2), (3, .int x3), (4, .int x4), (5, .int x5)] → cw D dA o A s S H locs → W p l e (rC_isBeside) s m args below meth c H locs 0 0 (cQi below args s D dA o A (rC_isBeside) post) (F0 m 30 ls [])) {x1 : Int32} {x2 : Int32} {x3 : Int32} {x5 : Int32} {S : CS} (h : C_isBeside_w73 post T30 x1 x2 x3 x5 S) {H : Heap} {locs : List Loc} {ls : Array Slot} (hl : lv_has ls 6 [(0, .ref (o 0)), (1, .int x1), (2, .int x2), (3, .int x3), (5, .int x5)]) (w : cw D dA o A s S H locs) : W p l e (rC_isBeside) s m args below meth c H locs 0 0 (cQi below args s D dA o A (rC_isBeside) post) (F0 m 73 ls []) := by
  unfold C_isBeside_w73 at h
  obtain ⟨⟨hx, hb, hml, hown, hts⟩, hr, hlk, hA⟩ := id C
  refine lv_iconst (v := 1) hx hb dX0_isBeside_73 (by decide) ?_
  refine lv_goto (tgt := 78) hx hb dX0_isBeside_74 (by decide) ?_
  exact C_isBeside_a78 C hT30 h (lv_sub hl [0, 1, 2, 3, 4] rfl) w
def C_isBeside_w30 (post : Int32 → CS → Prop) (T30 : Int32 → Int32 → Int32 → Int32 → Int32 → CS → Prop) (x1 : Int32) (x2 : Int32) (x3 : Int32) (x4 : Int32) (x5 : Int32) (S : CS) : Prop :=
  (((kF S 9) ≤ x5 → C_isBeside_w86 post T30 x4 S) ∧ (¬ (kF S 9) ≤ x5 → ((x4 = 0 → C_isBeside_w86 post T30 x4 S) ∧ (¬ x4 = 0 → ((x5 = x1 → C_isBeside_w73 post T30 x1 x2 x3 x5 S) ∧ (¬ x5 = x1 → ((x5 = x2 → C_isBeside_w73 post T30 x1 x2 x3 x5 S) ∧ (¬ x5 = x2 → (pk S (kA S 8) 2 ∧ vp_in x5 (kN S (kA S 8)) ∧ ∃ r1 : Nat, kO S (kA S 8) (x5).toNatClampNeg = some r1 ∧ C_bitsOf r1 S (fun (r2 : Int32) (S2 : CS) => (((r2 &&& (x3 ^^^ (-1 : Int32))) = 0 → C_isBeside_w78 post T30 (0 : Int32) x1 x2 x3 x5 S2) ∧ (¬ (r2 &&& (x3 ^^^ (-1 : Int32))) = 0 → C_isBeside_w73 post T30 x1 x2 x3 x5 S2))))))))))))
set_option maxHeartbeats 4000000 in
set_option maxRecDepth 100000 in
theorem C_isBeside_a30 {p : Program} {l : Launch} {e : Env} {s : State} {m : MethodId} {args : Array Value} {below : List Frame} {meth : Method} {c : Code} {D : va_G} {dA : Nat → ClassId} {o : Nat → Nat} {A : Nat → Prop} {post : Int32 → CS → Prop} {T30 : Int32 → Int32 → Int32 → Int32 → Int32 → CS → Prop} (C : cC RX0 p m c cX0_isBeside 6 s args meth (Option.some Jvm.ClassFile.FieldType.boolean) A) (hT30 : ∀ (x1 : Int32) (x2 : Int32) (x3 : Int32) (x4 : Int32) (x5 : Int32) (S : CS), T30 x1 x2 x3 x4 x5 S → ∀ (H : Heap) (locs : List Loc) (ls : Array Slot), lv_has ls 6 [(0, .ref (o 0)), (1, .int x1), (2, .int x2), (3, .int x3), (4, .int x4), (5, .int x5)] → cw D dA o A s S H locs → W p l e (rC_isBeside) s m args below meth c H locs 0 0 (cQi below args s D dA o A (rC_isBeside) post) (F0 m 30 ls [])) {x1 : Int32} {x2 : Int32} {x3 : Int32} {x4 : Int32} {x5 : Int32} {S : CS} (h : C_isBeside_w30 post T30 x1 x2 x3 x4 x5 S) {H : Heap} {locs : List Loc} {ls : Array Slot} (hl : lv_has ls 6 [(0, .ref (o 0)), (1, .int x1), (2, .int x2), (3, .int x3), (4, .int x4), (5, .int x5)]) (w : cw D dA o A s S H locs) : W p l e (rC_isBeside) s m args below meth c H locs 0 0 (cQi below args s D dA o A (rC_isBeside) post) (F0 m 30 ls []) := by
  unfold C_isBeside_w30 at h
  obtain ⟨⟨hx, hb, hml, hown, hts⟩, hr, hlk, hA⟩ := id C
  refine lv_iload hx hb dX0_isBeside_30 (lv_at hl 5 rfl) ?_
  refine lv_aload_n hx hb dX0_isBeside_32 rfl (lv_at hl 0 rfl) ?_
  refine cr_get C w 0 rfl rfl in_X0 9 (by decide) q173 rfl rfl dX0_isBeside_33 ?_
  obtain ⟨h1, h2⟩ := h
  refine lv_icmp_ge (tgt := 86) hx hb dX0_isBeside_36 (by decide) (fun c1 => ?_) (fun c1 => ?_)
  · have h := h1 c1
    exact C_isBeside_a86 C hT30 h (lv_sub hl [0, 4] rfl) w
  · have h := h2 c1
    refine lv_iload hx hb dX0_isBeside_39 (lv_at hl 4 rfl) ?_
    obtain ⟨h1, h2⟩ := h
    refine lv_if_eq (tgt := 86) hx hb dX0_isBeside_41 (by decide) (fun c1 => ?_) (fun c1 => ?_)
    · have h := h1 c1
      exact C_isBeside_a86 C hT30 h (lv_sub hl [0, 4] rfl) w
    · have h := h2 c1
      refine lv_iload hx hb dX0_isBeside_44 (lv_at hl 5 rfl) ?_
      refine lv_iload_n hx hb dX0_isBeside_46 rfl (lv_at hl 1 rfl) ?_
      obtain ⟨h1, h2⟩ := h
      refine lv_icmp_eq (tgt := 73) hx hb dX0_isBeside_47 (by decide) (fun c1 => ?_) (fun c1 => ?_)
      · have h := h1 c1
        exact C_isBeside_a73 C hT30 h (lv_sub hl [0, 1, 2, 3, 5] rfl) w
      · have h := h2 c1
        refine lv_iload hx hb dX0_isBeside_50 (lv_at hl 5 rfl) ?_
        refine lv_iload_n hx hb dX0_isBeside_52 rfl (lv_at hl 2 rfl) ?_
        obtain ⟨h1, h2⟩ := h
        refine lv_icmp_eq (tgt := 73) hx hb dX0_isBeside_53 (by decide) (fun c1 => ?_) (fun c1 => ?_)
        · have h := h1 c1
          exact C_isBeside_a73 C hT30 h (lv_sub hl [0, 1, 2, 3, 5] rfl) w
        · have h := h2 c1
          refine lv_aload_n hx hb dX0_isBeside_56 rfl (lv_at hl 0 rfl) ?_
          refine cr_get C w 0 rfl rfl in_X0 8 (by decide) q172 rfl rfl dX0_isBeside_57 ?_
          refine lv_iload hx hb dX0_isBeside_60 (lv_at hl 5 rfl) ?_
          obtain ⟨hpk, hi, r1, hr1, h⟩ := h
          refine cr_oald C w hpk hi dX0_isBeside_62 ?_
          refine cr_opt hr1 ?_
          refine cr_callSI (rest := []) C w h (va_cwS 1 hts (lw_S q460 q461 q82 q462) rfl rfl rfl C_bitsOf_d ⟨Nat.le_of_ble_eq_true rfl, Nat.le_of_ble_eq_true rfl⟩) rfl hl.1 rfl (Nat.le_of_ble_eq_true rfl) ⟨Nat.le_of_ble_eq_true rfl, Nat.le_of_ble_eq_true rfl⟩ dX0_isBeside_63 (fun r2 S2 H locs h w => ?_)
          refine lv_iload_n hx hb dX0_isBeside_66 rfl (lv_at hl 3 rfl) ?_
          refine lv_iconst (v := -1) hx hb dX0_isBeside_67 (by decide) ?_
          refine lv_ixor hx hb dX0_isBeside_68 ?_
          refine lv_iand hx hb dX0_isBeside_69 ?_
          obtain ⟨h1, h2⟩ := h
          refine lv_if_eq (tgt := 77) hx hb dX0_isBeside_70 (by decide) (fun c1 => ?_) (fun c1 => ?_)
          · have h := h1 c1
            refine lv_iconst (v := 0) hx hb dX0_isBeside_77 (by decide) ?_
            exact C_isBeside_a78 C hT30 h (lv_sub hl [0, 1, 2, 3, 5] rfl) w
          · have h := h2 c1
            exact C_isBeside_a73 C hT30 h (lv_sub hl [0, 1, 2, 3, 5] rfl) w
def C_isBeside_w0 (post : Int32 → CS → Prop) (T30 : Int32 → Int32 → Int32 → Int32 → Int32 → CS → Prop) (x1 : Int32) (x2 : Int32) (S : CS) : Prop :=
  (pk S (kA S 8) 2 ∧ vp_in x1 (kN S (kA S 8)) ∧ ∃ r1 : Nat, kO S (kA S 8) (x1).toNatClampNeg = some r1 ∧ C_bitsOf r1 S (fun (r2 : Int32) (S2 : CS) => (pk S2 (kA S2 8) 2 ∧ vp_in x2 (kN S2 (kA S2 8)) ∧ ∃ r3 : Nat, kO S2 (kA S2 8) (x2).toNatClampNeg = some r3 ∧ C_bitsOf r3 S2 (fun (r4 : Int32) (S4 : CS) => C_isAlone (r2 ||| r4) S4 (fun (r5 : Int32) (S5 : CS) => T30 x1 x2 (r2 ||| r4) r5 (0 : Int32) S5)))))
set_option maxHeartbeats 4000000 in
set_option maxRecDepth 100000 in
theorem C_isBeside_a0 {p : Program} {l : Launch} {e : Env} {s : State} {m : MethodId} {args : Array Value} {below : List Frame} {meth : Method} {c : Code} {D : va_G} {dA : Nat → ClassId} {o : Nat → Nat} {A : Nat → Prop} {post : Int32 → CS → Prop} {T30 : Int32 → Int32 → Int32 → Int32 → Int32 → CS → Prop} (C : cC RX0 p m c cX0_isBeside 6 s args meth (Option.some Jvm.ClassFile.FieldType.boolean) A) (hT30 : ∀ (x1 : Int32) (x2 : Int32) (x3 : Int32) (x4 : Int32) (x5 : Int32) (S : CS), T30 x1 x2 x3 x4 x5 S → ∀ (H : Heap) (locs : List Loc) (ls : Array Slot), lv_has ls 6 [(0, .ref (o 0)), (1, .int x1), (2, .int x2), (3, .int x3), (4, .int x4), (5, .int x5)] → cw D dA o A s S H locs → W p l e (rC_isBeside) s m args below meth c H locs 0 0 (cQi below args s D dA o A (rC_isBeside) post) (F0 m 30 ls [])) {x1 : Int32} {x2 : Int32} {S : CS} (h : C_isBeside_w0 post T30 x1 x2 S) {H : Heap} {locs : List Loc} {ls : Array Slot} (hl : lv_has ls 6 [(0, .ref (o 0)), (1, .int x1), (2, .int x2)]) (w : cw D dA o A s S H locs) : W p l e (rC_isBeside) s m args below meth c H locs 0 0 (cQi below args s D dA o A (rC_isBeside) post) (F0 m 0 ls []) := by
  unfold C_isBeside_w0 at h
  obtain ⟨⟨hx, hb, hml, hown, hts⟩, hr, hlk, hA⟩ := id C
  refine lv_aload_n hx hb dX0_isBeside_0 rfl (lv_at hl 0 rfl) ?_
  refine cr_get C w 0 rfl rfl in_X0 8 (by decide) q172 rfl rfl dX0_isBeside_1 ?_
  refine lv_iload_n hx hb dX0_isBeside_4 rfl (lv_at hl 1 rfl) ?_
  obtain ⟨hpk, hi, r1, hr1, h⟩ := h
  refine cr_oald C w hpk hi dX0_isBeside_5 ?_
  refine cr_opt hr1 ?_
  refine cr_callSI (rest := []) C w h (va_cwS 1 hts (lw_S q460 q461 q82 q462) rfl rfl rfl C_bitsOf_d ⟨Nat.le_of_ble_eq_true rfl, Nat.le_of_ble_eq_true rfl⟩) rfl hl.1 rfl (Nat.le_of_ble_eq_true rfl) ⟨Nat.le_of_ble_eq_true rfl, Nat.le_of_ble_eq_true rfl⟩ dX0_isBeside_6 (fun r2 S2 H locs h w => ?_)
  refine lv_aload_n hx hb dX0_isBeside_9 rfl (lv_at hl 0 rfl) ?_
  refine cr_get C w 0 rfl rfl in_X0 8 (by decide) q172 rfl rfl dX0_isBeside_10 ?_
  refine lv_iload_n hx hb dX0_isBeside_13 rfl (lv_at hl 2 rfl) ?_
  obtain ⟨hpk, hi, r3, hr3, h⟩ := h
  refine cr_oald C w hpk hi dX0_isBeside_14 ?_
  refine cr_opt hr3 ?_
  refine cr_callSI (rest := [.int _]) C w h (va_cwS 1 hts (lw_S q460 q461 q82 q462) rfl rfl rfl C_bitsOf_d ⟨Nat.le_of_ble_eq_true rfl, Nat.le_of_ble_eq_true rfl⟩) rfl hl.1 rfl (Nat.le_of_ble_eq_true rfl) ⟨Nat.le_of_ble_eq_true rfl, Nat.le_of_ble_eq_true rfl⟩ dX0_isBeside_15 (fun r4 S4 H locs h w => ?_)
  refine lv_ior hx hb dX0_isBeside_18 ?_
  refine lv_istore_n (lv' := [(3, .int _), (0, .ref _), (1, .int _), (2, .int _)]) hx hb dX0_isBeside_19 rfl hl (by decide) rfl (fun ls hl => ?_)
  refine lv_aload_n hx hb dX0_isBeside_20 rfl (lv_at hl 1 rfl) ?_
  refine lv_iload_n hx hb dX0_isBeside_21 rfl (lv_at hl 0 rfl) ?_
  refine cr_callVI (rest := []) (b := (fun o => o 0)) C w h (recv0 w) (cwV 1 hts (lw_V q463 q465 qs20 q82 q466) rfl rfl rfl C_isAlone_d ⟨Nat.le_of_ble_eq_true rfl, Nat.le_of_ble_eq_true rfl⟩) rfl hl.1 rfl (Nat.le_of_ble_eq_true rfl) ⟨Nat.le_of_ble_eq_true rfl, Nat.le_of_ble_eq_true rfl⟩ dX0_isBeside_22 (fun r5 S5 H locs h w => ?_)
  refine lv_istore (lv' := [(4, .int _), (3, .int _), (0, .ref _), (1, .int _), (2, .int _)]) hx hb dX0_isBeside_25 hl (by decide) rfl (fun ls hl => ?_)
  refine lv_iconst (v := 0) hx hb dX0_isBeside_27 (by decide) ?_
  refine lv_istore (lv' := [(5, .int _), (4, .int _), (3, .int _), (0, .ref _), (1, .int _), (2, .int _)]) hx hb dX0_isBeside_28 hl (by decide) rfl (fun ls hl => ?_)
  exact hT30 _ _ _ _ _ _ h _ _ _ (lv_sub hl [3, 4, 5, 2, 1, 0] rfl) w
def C_isBeside_VC (x1 : Int32) (x2 : Int32) (S : CS) (post : Int32 → CS → Prop) : Prop := ∀ (T30 : Int32 → Int32 → Int32 → Int32 → Int32 → CS → Prop), (∀ (x1 : Int32) (x2 : Int32) (x3 : Int32) (x4 : Int32) (x5 : Int32) (S : CS), C_isBeside_w30 post T30 x1 x2 x3 x4 x5 S → T30 x1 x2 x3 x4 x5 S) → C_isBeside_w0 post T30 x1 x2 S
theorem C_isBeside_ok {x1 : Int32} {x2 : Int32} {S : CS} {post : Int32 → CS → Prop} (h : C_isBeside_VC x1 x2 S post) : C_isBeside x1 x2 S post := by
  intro l D dA o sz
  refine cr_start (fun A => va_Qi post (cB D dA o A) A) rfl (Nat.le_of_ble_eq_true rfl) (by decide) ?_
  intro p e s m args below meth c ls A C w hl
  have hl : lv_has ls 6 [(0, .ref (o 0)), (1, .int x1), (2, .int x2)] := hl
  have h := h (fun (x1 : Int32) (x2 : Int32) (x3 : Int32) (x4 : Int32) (x5 : Int32) S => ∀ (H : Heap) (locs : List Loc) (ls : Array Slot), lv_has ls 6 [(0, .ref (o 0)), (1, .int x1), (2, .int x2), (3, .int x3), (4, .int x4), (5, .int x5)] → cw D dA o A s S H locs → W p l e (rC_isBeside) s m args below meth c H locs 0 0 (cQi below args s D dA o A (rC_isBeside) post) (F0 m 30 ls [])) (fun _ _ _ _ _ S h H locs ls hl w => C_isBeside_a30 C (fun _ _ _ _ _ _ h => h) h hl w)
  exact C_isBeside_a0 C (fun _ _ _ _ _ _ h => h) h (lv_sub hl [0, 1, 2] rfl) w

/-! ThirdSheets.match(III)V -/
def C_match_w166 (mc ms : Nat) (post : CS → Prop) (T8 : Int32 → Int32 → Int32 → Int32 → Nat → Nat → CS → Prop) (T56 : Int32 → Int32 → Int32 → Int32 → Nat → Nat → CS → Prop) (T84 : Int32 → Int32 → Int32 → Int32 → Int64 → Int32 → Nat → Nat → CS → Prop) (x1 : Int32) (x2 : Int32) (x3 : Int32) (x4 : Int32) (uc : Nat) (us : Nat) (S : CS) : Prop :=
  T56 x1 x2 x3 (x4 + (1 : Int32)) uc us S
set_option maxHeartbeats 4000000 in
set_option maxRecDepth 100000 in
theorem C_match_a166 {p : Program} {l : Launch} {e : Env} {s : State} {m : MethodId} {args : Array Value} {below : List Frame} {meth : Method} {c : Code} {D : va_G} {dA : Nat → ClassId} {o : Nat → Nat} {A : Nat → Prop} {mc ms : Nat} {post : CS → Prop} {T8 : Int32 → Int32 → Int32 → Int32 → Nat → Nat → CS → Prop} {T56 : Int32 → Int32 → Int32 → Int32 → Nat → Nat → CS → Prop} {T84 : Int32 → Int32 → Int32 → Int32 → Int64 → Int32 → Nat → Nat → CS → Prop} (C : cC RX0 p m c cX0_match 10 s args meth (Option.none : Option Jvm.ClassFile.FieldType) A) (hT8 : ∀ (x1 : Int32) (x2 : Int32) (x3 : Int32) (x4 : Int32) (uc : Nat) (us : Nat) (S : CS), T8 x1 x2 x3 x4 uc us S → uc ≤ mc ∧ us ≤ ms → ∀ (H : Heap) (locs : List Loc) (ls : Array Slot), lv_has ls 10 [(0, .ref (o 0)), (1, .int x1), (2, .int x2), (3, .int x3), (4, .int x4)] → cw D dA o A s S H locs → W p l e (rC_match mc ms) s m args below meth c H locs uc us (cQv below args s D dA o A (rC_match mc ms) post) (F0 m 8 ls [])) (hT56 : ∀ (x1 : Int32) (x2 : Int32) (x3 : Int32) (x4 : Int32) (uc : Nat) (us : Nat) (S : CS), T56 x1 x2 x3 x4 uc us S → uc ≤ mc ∧ us ≤ ms → ∀ (H : Heap) (locs : List Loc) (ls : Array Slot), lv_has ls 10 [(0, .ref (o 0)), (1, .int x1), (2, .int x2), (3, .int x3), (4, .int x4)] → cw D dA o A s S H locs → W p l e (rC_match mc ms) s m args below meth c H locs uc us (cQv below args s D dA o A (rC_match mc ms) post) (F0 m 56 ls [])) (hT84 : ∀ (x1 : Int32) (x2 : Int32) (x3 : Int32) (x4 : Int32) (x5 : Int64) (x7 : Int32) (uc : Nat) (us : Nat) (S : CS), T84 x1 x2 x3 x4 x5 x7 uc us S → uc ≤ mc ∧ us ≤ ms → ∀ (H : Heap) (locs : List Loc) (ls : Array Slot), lv_has ls 10 [(0, .ref (o 0)), (1, .int x1), (2, .int x2), (3, .int x3), (4, .int x4), (5, .long x5), (7, .int x7)] → cw D dA o A s S H locs → W p l e (rC_match mc ms) s m args below meth c H locs uc us (cQv below args s D dA o A (rC_match mc ms) post) (F0 m 84 ls [])) {x1 : Int32} {x2 : Int32} {x3 : Int32} {x4 : Int32} {uc : Nat} {us : Nat} {S : CS} (h : C_match_w166 mc ms post T8 T56 T84 x1 x2 x3 x4 uc us S) (hu : uc ≤ mc ∧ us ≤ ms) {H : Heap} {locs : List Loc} {ls : Array Slot} (hl : lv_has ls 10 [(0, .ref (o 0)), (1, .int x1), (2, .int x2), (3, .int x3), (4, .int x4)]) (w : cw D dA o A s S H locs) : W p l e (rC_match mc ms) s m args below meth c H locs uc us (cQv below args s D dA o A (rC_match mc ms) post) (F0 m 166 ls []) := by
  unfold C_match_w166 at h
  obtain ⟨⟨hx, hb, hml, hown, hts⟩, hr, hlk, hA⟩ := id C
  refine lv_iinc (v := _ + (1 : Int32)) (lv' := [(4, .int _), (0, .ref _), (1, .int _), (2, .int _), (3, .int _)]) hx hb dX0_match_166 hl (k := 4) rfl rfl (by decide) rfl (fun ls hl => ?_)
  refine lv_goto (tgt := 56) hx hb dX0_match_169 (by decide) ?_
  exact hT56 _ _ _ _ _ _ _ h hu _ _ _ (lv_sub hl [1, 2, 3, 4, 0] rfl) w
def C_match_w160 (mc ms : Nat) (post : CS → Prop) (T8 : Int32 → Int32 → Int32 → Int32 → Nat → Nat → CS → Prop) (T56 : Int32 → Int32 → Int32 → Int32 → Nat → Nat → CS → Prop) (T84 : Int32 → Int32 → Int32 → Int32 → Int64 → Int32 → Nat → Nat → CS → Prop) (x1 : Int32) (x2 : Int32) (x3 : Int32) (x4 : Int32) (x5 : Int64) (x7 : Int32) (uc : Nat) (us : Nat) (S : CS) : Prop :=
  T84 x1 x2 x3 x4 x5 (x7 + (1 : Int32)) uc us S
set_option maxHeartbeats 4000000 in
set_option maxRecDepth 100000 in
theorem C_match_a160 {p : Program} {l : Launch} {e : Env} {s : State} {m : MethodId} {args : Array Value} {below : List Frame} {meth : Method} {c : Code} {D : va_G} {dA : Nat → ClassId} {o : Nat → Nat} {A : Nat → Prop} {mc ms : Nat} {post : CS → Prop} {T8 : Int32 → Int32 → Int32 → Int32 → Nat → Nat → CS → Prop} {T56 : Int32 → Int32 → Int32 → Int32 → Nat → Nat → CS → Prop} {T84 : Int32 → Int32 → Int32 → Int32 → Int64 → Int32 → Nat → Nat → CS → Prop} (C : cC RX0 p m c cX0_match 10 s args meth (Option.none : Option Jvm.ClassFile.FieldType) A) (hT8 : ∀ (x1 : Int32) (x2 : Int32) (x3 : Int32) (x4 : Int32) (uc : Nat) (us : Nat) (S : CS), T8 x1 x2 x3 x4 uc us S → uc ≤ mc ∧ us ≤ ms → ∀ (H : Heap) (locs : List Loc) (ls : Array Slot), lv_has ls 10 [(0, .ref (o 0)), (1, .int x1), (2, .int x2), (3, .int x3), (4, .int x4)] → cw D dA o A s S H locs → W p l e (rC_match mc ms) s m args below meth c H locs uc us (cQv below args s D dA o A (rC_match mc ms) post) (F0 m 8 ls [])) (hT56 : ∀ (x1 : Int32) (x2 : Int32) (x3 : Int32) (x4 : Int32) (uc : Nat) (us : Nat) (S : CS), T56 x1 x2 x3 x4 uc us S → uc ≤ mc ∧ us ≤ ms → ∀ (H : Heap) (locs : List Loc) (ls : Array Slot), lv_has ls 10 [(0, .ref (o 0)), (1, .int x1), (2, .int x2), (3, .int x3), (4, .int x4)] → cw D dA o A s S H locs → W p l e (rC_match mc ms) s m args below meth c H locs uc us (cQv below args s D dA o A (rC_match mc ms) post) (F0 m 56 ls [])) (hT84 : ∀ (x1 : Int32) (x2 : Int32) (x3 : Int32) (x4 : Int32) (x5 : Int64) (x7 : Int32) (uc : Nat) (us : Nat) (S : CS), T84 x1 x2 x3 x4 x5 x7 uc us S → uc ≤ mc ∧ us ≤ ms → ∀ (H : Heap) (locs : List Loc) (ls : Array Slot), lv_has ls 10 [(0, .ref (o 0)), (1, .int x1), (2, .int x2), (3, .int x3), (4, .int x4), (5, .long x5), (7, .int x7)] → cw D dA o A s S H locs → W p l e (rC_match mc ms) s m args below meth c H locs uc us (cQv below args s D dA o A (rC_match mc ms) post) (F0 m 84 ls [])) {x1 : Int32} {x2 : Int32} {x3 : Int32} {x4 : Int32} {x5 : Int64} {x7 : Int32} {uc : Nat} {us : Nat} {S : CS} (h : C_match_w160 mc ms post T8 T56 T84 x1 x2 x3 x4 x5 x7 uc us S) (hu : uc ≤ mc ∧ us ≤ ms) {H : Heap} {locs : List Loc} {ls : Array Slot} (hl : lv_has ls 10 [(0, .ref (o 0)), (1, .int x1), (2, .int x2), (3, .int x3), (4, .int x4), (5, .long x5), (7, .int x7)]) (w : cw D dA o A s S H locs) : W p l e (rC_match mc ms) s m args below meth c H locs uc us (cQv below args s D dA o A (rC_match mc ms) post) (F0 m 160 ls []) := by
  unfold C_match_w160 at h
  obtain ⟨⟨hx, hb, hml, hown, hts⟩, hr, hlk, hA⟩ := id C
  refine lv_iinc (v := _ + (1 : Int32)) (lv' := [(7, .int _), (0, .ref _), (1, .int _), (2, .int _), (3, .int _), (4, .int _), (5, .long _)]) hx hb dX0_match_160 hl (k := 6) rfl rfl (by decide) rfl (fun ls hl => ?_)
  refine lv_goto (tgt := 84) hx hb dX0_match_163 (by decide) ?_
  exact hT84 _ _ _ _ _ _ _ _ _ h hu _ _ _ (lv_sub hl [1, 2, 3, 4, 5, 6, 0] rfl) w
def C_match_w84 (mc ms : Nat) (post : CS → Prop) (T8 : Int32 → Int32 → Int32 → Int32 → Nat → Nat → CS → Prop) (T56 : Int32 → Int32 → Int32 → Int32 → Nat → Nat → CS → Prop) (T84 : Int32 → Int32 → Int32 → Int32 → Int64 → Int32 → Nat → Nat → CS → Prop) (x1 : Int32) (x2 : Int32) (x3 : Int32) (x4 : Int32) (x5 : Int64) (x7 : Int32) (uc : Nat) (us : Nat) (S : CS) : Prop :=
  (((kF S 9) ≤ x7 → C_match_w166 mc ms post T8 T56 T84 x1 x2 x3 x4 uc us S) ∧ (¬ (kF S 9) ≤ x7 → ((x5 ≤ (0 : Int64) → C_match_w166 mc ms post T8 T56 T84 x1 x2 x3 x4 uc us S) ∧ (¬ x5 ≤ (0 : Int64) → (pk S (kA S 8) 2 ∧ vp_in x7 (kN S (kA S 8)) ∧ ∃ r1 : Nat, kO S (kA S 8) (x7).toNatClampNeg = some r1 ∧ C_off r1 x1 x2 x3 S (fun (r2 : Int64) (S2 : CS) => (((0 : Int64) ≤ r2 → C_match_w160 mc ms post T8 T56 T84 x1 x2 x3 x4 x5 x7 uc us S2) ∧ (¬ (0 : Int64) ≤ r2 → C_isBeside x4 x7 S2 (fun (r3 : Int32) (S3 : CS) => ((r3 = 0 → C_match_w160 mc ms post T8 T56 T84 x1 x2 x3 x4 x5 x7 uc us S3) ∧ (¬ r3 = 0 → (pk S3 (kA S3 8) 2 ∧ vp_in x4 (kN S3 (kA S3 8)) ∧ ∃ r4 : Nat, kO S3 (kA S3 8) (x4).toNatClampNeg = some r4 ∧ (pk S3 (kA S3 8) 2 ∧ vp_in x7 (kN S3 (kA S3 8)) ∧ ∃ r5 : Nat, kO S3 (kA S3 8) (x7).toNatClampNeg = some r5 ∧ (uc + 1 ≤ mc ∧ us + 21 ≤ ms ∧ C_grown r4 (-r2) r5 x5 S3 (fun (r6 : Nat) (S6 : CS) => (∃ kc7 ks7 : Nat, (uc + 1) + kc7 ≤ mc ∧ (us + 21) + ks7 ≤ ms ∧ C_keep kc7 ks7 r6 S6 (fun (S7 : CS) => C_match_w160 mc ms post T8 T56 T84 x1 x2 x3 x4 x5 x7 ((uc + 1) + kc7) ((us + 21) + ks7) S7)))))))))))))))))
set_option maxHeartbeats 4000000 in
set_option maxRecDepth 100000 in
theorem C_match_a84 {p : Program} {l : Launch} {e : Env} {s : State} {m : MethodId} {args : Array Value} {below : List Frame} {meth : Method} {c : Code} {D : va_G} {dA : Nat → ClassId} {o : Nat → Nat} {A : Nat → Prop} {mc ms : Nat} {post : CS → Prop} {T8 : Int32 → Int32 → Int32 → Int32 → Nat → Nat → CS → Prop} {T56 : Int32 → Int32 → Int32 → Int32 → Nat → Nat → CS → Prop} {T84 : Int32 → Int32 → Int32 → Int32 → Int64 → Int32 → Nat → Nat → CS → Prop} (C : cC RX0 p m c cX0_match 10 s args meth (Option.none : Option Jvm.ClassFile.FieldType) A) (hT8 : ∀ (x1 : Int32) (x2 : Int32) (x3 : Int32) (x4 : Int32) (uc : Nat) (us : Nat) (S : CS), T8 x1 x2 x3 x4 uc us S → uc ≤ mc ∧ us ≤ ms → ∀ (H : Heap) (locs : List Loc) (ls : Array Slot), lv_has ls 10 [(0, .ref (o 0)), (1, .int x1), (2, .int x2), (3, .int x3), (4, .int x4)] → cw D dA o A s S H locs → W p l e (rC_match mc ms) s m args below meth c H locs uc us (cQv below args s D dA o A (rC_match mc ms) post) (F0 m 8 ls [])) (hT56 : ∀ (x1 : Int32) (x2 : Int32) (x3 : Int32) (x4 : Int32) (uc : Nat) (us : Nat) (S : CS), T56 x1 x2 x3 x4 uc us S → uc ≤ mc ∧ us ≤ ms → ∀ (H : Heap) (locs : List Loc) (ls : Array Slot), lv_has ls 10 [(0, .ref (o 0)), (1, .int x1), (2, .int x2), (3, .int x3), (4, .int x4)] → cw D dA o A s S H locs → W p l e (rC_match mc ms) s m args below meth c H locs uc us (cQv below args s D dA o A (rC_match mc ms) post) (F0 m 56 ls [])) (hT84 : ∀ (x1 : Int32) (x2 : Int32) (x3 : Int32) (x4 : Int32) (x5 : Int64) (x7 : Int32) (uc : Nat) (us : Nat) (S : CS), T84 x1 x2 x3 x4 x5 x7 uc us S → uc ≤ mc ∧ us ≤ ms → ∀ (H : Heap) (locs : List Loc) (ls : Array Slot), lv_has ls 10 [(0, .ref (o 0)), (1, .int x1), (2, .int x2), (3, .int x3), (4, .int x4), (5, .long x5), (7, .int x7)] → cw D dA o A s S H locs → W p l e (rC_match mc ms) s m args below meth c H locs uc us (cQv below args s D dA o A (rC_match mc ms) post) (F0 m 84 ls [])) {x1 : Int32} {x2 : Int32} {x3 : Int32} {x4 : Int32} {x5 : Int64} {x7 : Int32} {uc : Nat} {us : Nat} {S : CS} (h : C_match_w84 mc ms post T8 T56 T84 x1 x2 x3 x4 x5 x7 uc us S) (hu : uc ≤ mc ∧ us ≤ ms) {H : Heap} {locs : List Loc} {ls : Array Slot} (hl : lv_has ls 10 [(0, .ref (o 0)), (1, .int x1), (2, .int x2), (3, .int x3), (4, .int x4), (5, .long x5), (7, .int x7)]) (w : cw D dA o A s S H locs) : W p l e (rC_match mc ms) s m args below meth c H locs uc us (cQv below args s D dA o A (rC_match mc ms) post) (F0 m 84 ls []) := by
  unfold C_match_w84 at h
  obtain ⟨⟨hx, hb, hml, hown, hts⟩, hr, hlk, hA⟩ := id C
  refine lv_iload hx hb dX0_match_84 (lv_at hl 6 rfl) ?_
  refine lv_aload_n hx hb dX0_match_86 rfl (lv_at hl 0 rfl) ?_
  refine cr_get C w 0 rfl rfl in_X0 9 (by decide) q173 rfl rfl dX0_match_87 ?_
  obtain ⟨h1, h2⟩ := h
  refine lv_icmp_ge (tgt := 166) hx hb dX0_match_90 (by decide) (fun c1 => ?_) (fun c1 => ?_)
  · have h := h1 c1
    exact C_match_a166 C hT8 hT56 hT84 h hu (lv_sub hl [0, 1, 2, 3, 4] rfl) w
  · have h := h2 c1
    refine lv_lload hx hb dX0_match_93 (lv_at hl 5 rfl) ?_
    refine lv_lconst (v := 0) hx hb dX0_match_95 (by decide) ?_
    refine W.lcmp hx hb dX0_match_96 ?_
    obtain ⟨h1, h2⟩ := h
    refine lv_if_le (tgt := 166) hx hb dX0_match_97 (by decide) (fun c1 => ?_) (fun c1 => ?_)
    · have h := h1 ((lg_cmp_le _ _).mp c1)
      exact C_match_a166 C hT8 hT56 hT84 h hu (lv_sub hl [0, 1, 2, 3, 4] rfl) w
    · have h := h2 (mt (lg_cmp_le _ _).mpr c1)
      refine lv_aload_n hx hb dX0_match_100 rfl (lv_at hl 0 rfl) ?_
      refine lv_aload_n hx hb dX0_match_101 rfl (lv_at hl 0 rfl) ?_
      refine cr_get C w 0 rfl rfl in_X0 8 (by decide) q172 rfl rfl dX0_match_102 ?_
      refine lv_iload hx hb dX0_match_105 (lv_at hl 6 rfl) ?_
      obtain ⟨hpk, hi, r1, hr1, h⟩ := h
      refine cr_oald C w hpk hi dX0_match_107 ?_
      refine cr_opt hr1 ?_
      refine lv_iload_n hx hb dX0_match_108 rfl (lv_at hl 1 rfl) ?_
      refine lv_iload_n hx hb dX0_match_109 rfl (lv_at hl 2 rfl) ?_
      refine lv_iload_n hx hb dX0_match_110 rfl (lv_at hl 3 rfl) ?_
      refine cr_callVL (rest := []) (b := (fun o => o 0)) C w h (recv0 w) (cwV 4 hts (lw_V q449 q451 qs18 q82 q452) rfl rfl rfl C_off_d ⟨Nat.le_of_ble_eq_true rfl, Nat.le_of_ble_eq_true rfl⟩) rfl hl.1 rfl (Nat.le_of_ble_eq_true rfl) hu dX0_match_111 (fun r2 S2 H locs h w => ?_)
      refine lv_lstore (lv' := [(8, .long _), (0, .ref _), (1, .int _), (2, .int _), (3, .int _), (4, .int _), (5, .long _), (7, .int _)]) hx hb dX0_match_114 hl (by decide) rfl (fun ls hl => ?_)
      refine lv_lload hx hb dX0_match_116 (lv_at hl 0 rfl) ?_
      refine lv_lconst (v := 0) hx hb dX0_match_118 (by decide) ?_
      refine W.lcmp hx hb dX0_match_119 ?_
      obtain ⟨h1, h2⟩ := h
      refine lv_if_ge (tgt := 160) hx hb dX0_match_120 (by decide) (fun c1 => ?_) (fun c1 => ?_)
      · have h := h1 ((lg_cmp_ge _ _).mp c1)
        exact C_match_a160 C hT8 hT56 hT84 h hu (lv_sub hl [1, 2, 3, 4, 5, 6, 7] rfl) w
      · have h := h2 (mt (lg_cmp_ge _ _).mpr c1)
        refine lv_aload_n hx hb dX0_match_123 rfl (lv_at hl 1 rfl) ?_
        refine lv_iload hx hb dX0_match_124 (lv_at hl 5 rfl) ?_
        refine lv_iload hx hb dX0_match_126 (lv_at hl 7 rfl) ?_
        refine cr_callVI (rest := []) (b := (fun o => o 0)) C w h (recv0 w) (cwV 2 hts (lw_V q456 q458 qs19 q82 q459) rfl rfl rfl C_isBeside_d ⟨Nat.le_of_ble_eq_true rfl, Nat.le_of_ble_eq_true rfl⟩) rfl hl.1 rfl (Nat.le_of_ble_eq_true rfl) hu dX0_match_128 (fun r3 S3 H locs h w => ?_)
        obtain ⟨h1, h2⟩ := h
        refine lv_if_eq (tgt := 160) hx hb dX0_match_131 (by decide) (fun c1 => ?_) (fun c1 => ?_)
        · have h := h1 c1
          exact C_match_a160 C hT8 hT56 hT84 h hu (lv_sub hl [1, 2, 3, 4, 5, 6, 7] rfl) w
        · have h := h2 c1
          refine lv_aload_n hx hb dX0_match_134 rfl (lv_at hl 1 rfl) ?_
          refine lv_aload_n hx hb dX0_match_135 rfl (lv_at hl 1 rfl) ?_
          refine cr_get C w 0 rfl rfl in_X0 8 (by decide) q172 rfl rfl dX0_match_136 ?_
          refine lv_iload hx hb dX0_match_139 (lv_at hl 5 rfl) ?_
          obtain ⟨hpk, hi, r4, hr4, h⟩ := h
          refine cr_oald C w hpk hi dX0_match_141 ?_
          refine cr_opt hr4 ?_
          refine lv_lload hx hb dX0_match_142 (lv_at hl 0 rfl) ?_
          refine lv_lneg hx hb dX0_match_144 ?_
          refine lv_aload_n hx hb dX0_match_145 rfl (lv_at hl 1 rfl) ?_
          refine cr_get C w 0 rfl rfl in_X0 8 (by decide) q172 rfl rfl dX0_match_146 ?_
          refine lv_iload hx hb dX0_match_149 (lv_at hl 7 rfl) ?_
          obtain ⟨hpk, hi, r5, hr5, h⟩ := h
          refine cr_oald C w hpk hi dX0_match_151 ?_
          refine cr_opt hr5 ?_
          refine lv_lload hx hb dX0_match_152 (lv_at hl 6 rfl) ?_
          obtain ⟨hc1, hs1, h⟩ := h
          refine cr_callSR (rest := [.ref _]) C w h (va_cwS 4 hts (lw_S q473 q474 q82 q475) rfl rfl rfl C_grown_d ⟨Nat.le_of_ble_eq_true rfl, Nat.le_of_ble_eq_true rfl⟩) rfl hl.1 rfl (Nat.le_of_ble_eq_true rfl) ⟨hc1, hs1⟩ dX0_match_154 (fun r6 S6 H locs h w => ?_)
          have hu : (uc + 1) ≤ mc ∧ (us + 21) ≤ ms := ⟨hc1, hs1⟩
          obtain ⟨kc7, ks7, hc1, hs1, h⟩ := h
          refine cr_callVV (rest := []) (b := (fun o => o 0)) C w h (recv0 w) (cwV 1 hts (lw_V q438 q440 qs16 q82 q441) rfl rfl rfl C_keep_d ⟨Nat.le_of_ble_eq_true rfl, Nat.le_of_ble_eq_true rfl⟩) rfl hl.1 rfl (Nat.le_of_ble_eq_true rfl) ⟨hc1, hs1⟩ dX0_match_157 (fun S7 H locs h w => ?_)
          have hu : ((uc + 1) + kc7) ≤ mc ∧ ((us + 21) + ks7) ≤ ms := ⟨hc1, hs1⟩
          exact C_match_a160 C hT8 hT56 hT84 h hu (lv_sub hl [1, 2, 3, 4, 5, 6, 7] rfl) w
def C_match_w56 (mc ms : Nat) (post : CS → Prop) (T8 : Int32 → Int32 → Int32 → Int32 → Nat → Nat → CS → Prop) (T56 : Int32 → Int32 → Int32 → Int32 → Nat → Nat → CS → Prop) (T84 : Int32 → Int32 → Int32 → Int32 → Int64 → Int32 → Nat → Nat → CS → Prop) (x1 : Int32) (x2 : Int32) (x3 : Int32) (x4 : Int32) (uc : Nat) (us : Nat) (S : CS) : Prop :=
  (((kF S 9) ≤ x4 → (fun (S1 : CS) => (fun (S2 : CS) => (fun (S3 : CS) => post S3) (tF S2 9 (kF S2 12))) (tA S1 11 (kA S 8))) (tA S 8 (kA S 11))) ∧ (¬ (kF S 9) ≤ x4 → (pk S (kA S 8) 2 ∧ vp_in x4 (kN S (kA S 8)) ∧ ∃ r4 : Nat, kO S (kA S 8) (x4).toNatClampNeg = some r4 ∧ C_off r4 x1 x2 x3 S (fun (r5 : Int64) (S5 : CS) => T84 x1 x2 x3 x4 r5 (0 : Int32) uc us S5))))
set_option maxHeartbeats 4000000 in
set_option maxRecDepth 100000 in
theorem C_match_a56 {p : Program} {l : Launch} {e : Env} {s : State} {m : MethodId} {args : Array Value} {below : List Frame} {meth : Method} {c : Code} {D : va_G} {dA : Nat → ClassId} {o : Nat → Nat} {A : Nat → Prop} {mc ms : Nat} {post : CS → Prop} {T8 : Int32 → Int32 → Int32 → Int32 → Nat → Nat → CS → Prop} {T56 : Int32 → Int32 → Int32 → Int32 → Nat → Nat → CS → Prop} {T84 : Int32 → Int32 → Int32 → Int32 → Int64 → Int32 → Nat → Nat → CS → Prop} (C : cC RX0 p m c cX0_match 10 s args meth (Option.none : Option Jvm.ClassFile.FieldType) A) (hT8 : ∀ (x1 : Int32) (x2 : Int32) (x3 : Int32) (x4 : Int32) (uc : Nat) (us : Nat) (S : CS), T8 x1 x2 x3 x4 uc us S → uc ≤ mc ∧ us ≤ ms → ∀ (H : Heap) (locs : List Loc) (ls : Array Slot), lv_has ls 10 [(0, .ref (o 0)), (1, .int x1), (2, .int x2), (3, .int x3), (4, .int x4)] → cw D dA o A s S H locs → W p l e (rC_match mc ms) s m args below meth c H locs uc us (cQv below args s D dA o A (rC_match mc ms) post) (F0 m 8 ls [])) (hT56 : ∀ (x1 : Int32) (x2 : Int32) (x3 : Int32) (x4 : Int32) (uc : Nat) (us : Nat) (S : CS), T56 x1 x2 x3 x4 uc us S → uc ≤ mc ∧ us ≤ ms → ∀ (H : Heap) (locs : List Loc) (ls : Array Slot), lv_has ls 10 [(0, .ref (o 0)), (1, .int x1), (2, .int x2), (3, .int x3), (4, .int x4)] → cw D dA o A s S H locs → W p l e (rC_match mc ms) s m args below meth c H locs uc us (cQv below args s D dA o A (rC_match mc ms) post) (F0 m 56 ls [])) (hT84 : ∀ (x1 : Int32) (x2 : Int32) (x3 : Int32) (x4 : Int32) (x5 : Int64) (x7 : Int32) (uc : Nat) (us : Nat) (S : CS), T84 x1 x2 x3 x4 x5 x7 uc us S → uc ≤ mc ∧ us ≤ ms → ∀ (H : Heap) (locs : List Loc) (ls : Array Slot), lv_has ls 10 [(0, .ref (o 0)), (1, .int x1), (2, .int x2), (3, .int x3), (4, .int x4), (5, .long x5), (7, .int x7)] → cw D dA o A s S H locs → W p l e (rC_match mc ms) s m args below meth c H locs uc us (cQv below args s D dA o A (rC_match mc ms) post) (F0 m 84 ls [])) {x1 : Int32} {x2 : Int32} {x3 : Int32} {x4 : Int32} {uc : Nat} {us : Nat} {S : CS} (h : C_match_w56 mc ms post T8 T56 T84 x1 x2 x3 x4 uc us S) (hu : uc ≤ mc ∧ us ≤ ms) {H : Heap} {locs : List Loc} {ls : Array Slot} (hl : lv_has ls 10 [(0, .ref (o 0)), (1, .int x1), (2, .int x2), (3, .int x3), (4, .int x4)]) (w : cw D dA o A s S H locs) : W p l e (rC_match mc ms) s m args below meth c H locs uc us (cQv below args s D dA o A (rC_match mc ms) post) (F0 m 56 ls []) := by
  unfold C_match_w56 at h
  obtain ⟨⟨hx, hb, hml, hown, hts⟩, hr, hlk, hA⟩ := id C
  refine lv_iload hx hb dX0_match_56 (lv_at hl 4 rfl) ?_
  refine lv_aload_n hx hb dX0_match_58 rfl (lv_at hl 0 rfl) ?_
  refine cr_get C w 0 rfl rfl in_X0 9 (by decide) q173 rfl rfl dX0_match_59 ?_
  obtain ⟨h1, h2⟩ := h
  refine lv_icmp_ge (tgt := 172) hx hb dX0_match_62 (by decide) (fun c1 => ?_) (fun c1 => ?_)
  · have h := h1 c1
    refine lv_aload_n hx hb dX0_match_172 rfl (lv_at hl 0 rfl) ?_
    refine cr_get C w 0 rfl rfl in_X0 8 (by decide) q172 rfl rfl dX0_match_173 ?_
    refine lv_astore (lv' := [(4, .ref _), (0, .ref _), (1, .int _), (2, .int _), (3, .int _)]) hx hb dX0_match_176 hl (by decide) rfl (fun ls hl => ?_)
    refine lv_aload_n hx hb dX0_match_178 rfl (lv_at hl 1 rfl) ?_
    refine lv_aload_n hx hb dX0_match_179 rfl (lv_at hl 1 rfl) ?_
    refine cr_get C w 0 rfl rfl in_X0 11 (by decide) q175 rfl rfl dX0_match_180 ?_
    refine cr_put (ty := .array (.array .long)) C w 8 (by decide) q172 rfl rfl (by decide +kernel) rfl rfl CWa_8 dX0_match_183 (fun H locs w => ?_)
    refine lv_aload_n hx hb dX0_match_186 rfl (lv_at hl 1 rfl) ?_
    refine lv_aload hx hb dX0_match_187 (lv_at hl 0 rfl) ?_
    refine cr_put (ty := .array (.array .long)) C w 11 (by decide) q175 rfl rfl (by decide +kernel) rfl rfl CWa_11 dX0_match_189 (fun H locs w => ?_)
    refine lv_aload_n hx hb dX0_match_192 rfl (lv_at hl 1 rfl) ?_
    refine lv_aload_n hx hb dX0_match_193 rfl (lv_at hl 1 rfl) ?_
    refine cr_get C w 0 rfl rfl in_X0 12 (by decide) q176 rfl rfl dX0_match_194 ?_
    refine cr_put (ty := .int) C w 9 (by decide) q173 rfl rfl (by decide +kernel) rfl rfl CWf_9 dX0_match_197 (fun H locs w => ?_)
    exact cr_vret C w h hu.1 hu.2 dX0_match_200
  · have h := h2 c1
    refine lv_aload_n hx hb dX0_match_65 rfl (lv_at hl 0 rfl) ?_
    refine lv_aload_n hx hb dX0_match_66 rfl (lv_at hl 0 rfl) ?_
    refine cr_get C w 0 rfl rfl in_X0 8 (by decide) q172 rfl rfl dX0_match_67 ?_
    refine lv_iload hx hb dX0_match_70 (lv_at hl 4 rfl) ?_
    obtain ⟨hpk, hi, r4, hr4, h⟩ := h
    refine cr_oald C w hpk hi dX0_match_72 ?_
    refine cr_opt hr4 ?_
    refine lv_iload_n hx hb dX0_match_73 rfl (lv_at hl 1 rfl) ?_
    refine lv_iload_n hx hb dX0_match_74 rfl (lv_at hl 2 rfl) ?_
    refine lv_iload_n hx hb dX0_match_75 rfl (lv_at hl 3 rfl) ?_
    refine cr_callVL (rest := []) (b := (fun o => o 0)) C w h (recv0 w) (cwV 4 hts (lw_V q449 q451 qs18 q82 q452) rfl rfl rfl C_off_d ⟨Nat.le_of_ble_eq_true rfl, Nat.le_of_ble_eq_true rfl⟩) rfl hl.1 rfl (Nat.le_of_ble_eq_true rfl) hu dX0_match_76 (fun r5 S5 H locs h w => ?_)
    refine lv_lstore (lv' := [(5, .long _), (0, .ref _), (1, .int _), (2, .int _), (3, .int _), (4, .int _)]) hx hb dX0_match_79 hl (by decide) rfl (fun ls hl => ?_)
    refine lv_iconst (v := 0) hx hb dX0_match_81 (by decide) ?_
    refine lv_istore (lv' := [(7, .int _), (5, .long _), (0, .ref _), (1, .int _), (2, .int _), (3, .int _), (4, .int _)]) hx hb dX0_match_82 hl (by decide) rfl (fun ls hl => ?_)
    exact hT84 _ _ _ _ _ _ _ _ _ h hu _ _ _ (lv_sub hl [2, 3, 4, 5, 6, 1, 0] rfl) w
def C_match_w47 (mc ms : Nat) (post : CS → Prop) (T8 : Int32 → Int32 → Int32 → Int32 → Nat → Nat → CS → Prop) (T56 : Int32 → Int32 → Int32 → Int32 → Nat → Nat → CS → Prop) (T84 : Int32 → Int32 → Int32 → Int32 → Int64 → Int32 → Nat → Nat → CS → Prop) (x1 : Int32) (x2 : Int32) (x3 : Int32) (x4 : Int32) (uc : Nat) (us : Nat) (S : CS) : Prop :=
  T8 x1 x2 x3 (x4 + (1 : Int32)) uc us S
set_option maxHeartbeats 4000000 in
set_option maxRecDepth 100000 in
theorem C_match_a47 {p : Program} {l : Launch} {e : Env} {s : State} {m : MethodId} {args : Array Value} {below : List Frame} {meth : Method} {c : Code} {D : va_G} {dA : Nat → ClassId} {o : Nat → Nat} {A : Nat → Prop} {mc ms : Nat} {post : CS → Prop} {T8 : Int32 → Int32 → Int32 → Int32 → Nat → Nat → CS → Prop} {T56 : Int32 → Int32 → Int32 → Int32 → Nat → Nat → CS → Prop} {T84 : Int32 → Int32 → Int32 → Int32 → Int64 → Int32 → Nat → Nat → CS → Prop} (C : cC RX0 p m c cX0_match 10 s args meth (Option.none : Option Jvm.ClassFile.FieldType) A) (hT8 : ∀ (x1 : Int32) (x2 : Int32) (x3 : Int32) (x4 : Int32) (uc : Nat) (us : Nat) (S : CS), T8 x1 x2 x3 x4 uc us S → uc ≤ mc ∧ us ≤ ms → ∀ (H : Heap) (locs : List Loc) (ls : Array Slot), lv_has ls 10 [(0, .ref (o 0)), (1, .int x1), (2, .int x2), (3, .int x3), (4, .int x4)] → cw D dA o A s S H locs → W p l e (rC_match mc ms) s m args below meth c H locs uc us (cQv below args s D dA o A (rC_match mc ms) post) (F0 m 8 ls [])) (hT56 : ∀ (x1 : Int32) (x2 : Int32) (x3 : Int32) (x4 : Int32) (uc : Nat) (us : Nat) (S : CS), T56 x1 x2 x3 x4 uc us S → uc ≤ mc ∧ us ≤ ms → ∀ (H : Heap) (locs : List Loc) (ls : Array Slot), lv_has ls 10 [(0, .ref (o 0)), (1, .int x1), (2, .int x2), (3, .int x3), (4, .int x4)] → cw D dA o A s S H locs → W p l e (rC_match mc ms) s m args below meth c H locs uc us (cQv below args s D dA o A (rC_match mc ms) post) (F0 m 56 ls [])) (hT84 : ∀ (x1 : Int32) (x2 : Int32) (x3 : Int32) (x4 : Int32) (x5 : Int64) (x7 : Int32) (uc : Nat) (us : Nat) (S : CS), T84 x1 x2 x3 x4 x5 x7 uc us S → uc ≤ mc ∧ us ≤ ms → ∀ (H : Heap) (locs : List Loc) (ls : Array Slot), lv_has ls 10 [(0, .ref (o 0)), (1, .int x1), (2, .int x2), (3, .int x3), (4, .int x4), (5, .long x5), (7, .int x7)] → cw D dA o A s S H locs → W p l e (rC_match mc ms) s m args below meth c H locs uc us (cQv below args s D dA o A (rC_match mc ms) post) (F0 m 84 ls [])) {x1 : Int32} {x2 : Int32} {x3 : Int32} {x4 : Int32} {uc : Nat} {us : Nat} {S : CS} (h : C_match_w47 mc ms post T8 T56 T84 x1 x2 x3 x4 uc us S) (hu : uc ≤ mc ∧ us ≤ ms) {H : Heap} {locs : List Loc} {ls : Array Slot} (hl : lv_has ls 10 [(0, .ref (o 0)), (1, .int x1), (2, .int x2), (3, .int x3), (4, .int x4)]) (w : cw D dA o A s S H locs) : W p l e (rC_match mc ms) s m args below meth c H locs uc us (cQv below args s D dA o A (rC_match mc ms) post) (F0 m 47 ls []) := by
  unfold C_match_w47 at h
  obtain ⟨⟨hx, hb, hml, hown, hts⟩, hr, hlk, hA⟩ := id C
  refine lv_iinc (v := _ + (1 : Int32)) (lv' := [(4, .int _), (0, .ref _), (1, .int _), (2, .int _), (3, .int _)]) hx hb dX0_match_47 hl (k := 4) rfl rfl (by decide) rfl (fun ls hl => ?_)
  refine lv_goto (tgt := 8) hx hb dX0_match_50 (by decide) ?_
  exact hT8 _ _ _ _ _ _ _ h hu _ _ _ (lv_sub hl [1, 2, 3, 4, 0] rfl) w
def C_match_w8 (mc ms : Nat) (post : CS → Prop) (T8 : Int32 → Int32 → Int32 → Int32 → Nat → Nat → CS → Prop) (T56 : Int32 → Int32 → Int32 → Int32 → Nat → Nat → CS → Prop) (T84 : Int32 → Int32 → Int32 → Int32 → Int64 → Int32 → Nat → Nat → CS → Prop) (x1 : Int32) (x2 : Int32) (x3 : Int32) (x4 : Int32) (uc : Nat) (us : Nat) (S : CS) : Prop :=
  (((kF S 9) ≤ x4 → T56 x1 x2 x3 (0 : Int32) uc us S) ∧ (¬ (kF S 9) ≤ x4 → (pk S (kA S 8) 2 ∧ vp_in x4 (kN S (kA S 8)) ∧ ∃ r1 : Nat, kO S (kA S 8) (x4).toNatClampNeg = some r1 ∧ C_off r1 x1 x2 x3 S (fun (r2 : Int64) (S2 : CS) => ((¬ r2 = (0 : Int64) → C_match_w47 mc ms post T8 T56 T84 x1 x2 x3 x4 uc us S2) ∧ (r2 = (0 : Int64) → (pk S2 (kA S2 8) 2 ∧ vp_in x4 (kN S2 (kA S2 8)) ∧ ∃ r3 : Nat, kO S2 (kA S2 8) (x4).toNatClampNeg = some r3 ∧ (∃ kc4 ks4 : Nat, uc + kc4 ≤ mc ∧ us + ks4 ≤ ms ∧ C_keep kc4 ks4 r3 S2 (fun (S4 : CS) => C_match_w47 mc ms post T8 T56 T84 x1 x2 x3 x4 (uc + kc4) (us + ks4) S4)))))))))
set_option maxHeartbeats 4000000 in
set_option maxRecDepth 100000 in
theorem C_match_a8 {p : Program} {l : Launch} {e : Env} {s : State} {m : MethodId} {args : Array Value} {below : List Frame} {meth : Method} {c : Code} {D : va_G} {dA : Nat → ClassId} {o : Nat → Nat} {A : Nat → Prop} {mc ms : Nat} {post : CS → Prop} {T8 : Int32 → Int32 → Int32 → Int32 → Nat → Nat → CS → Prop} {T56 : Int32 → Int32 → Int32 → Int32 → Nat → Nat → CS → Prop} {T84 : Int32 → Int32 → Int32 → Int32 → Int64 → Int32 → Nat → Nat → CS → Prop} (C : cC RX0 p m c cX0_match 10 s args meth (Option.none : Option Jvm.ClassFile.FieldType) A) (hT8 : ∀ (x1 : Int32) (x2 : Int32) (x3 : Int32) (x4 : Int32) (uc : Nat) (us : Nat) (S : CS), T8 x1 x2 x3 x4 uc us S → uc ≤ mc ∧ us ≤ ms → ∀ (H : Heap) (locs : List Loc) (ls : Array Slot), lv_has ls 10 [(0, .ref (o 0)), (1, .int x1), (2, .int x2), (3, .int x3), (4, .int x4)] → cw D dA o A s S H locs → W p l e (rC_match mc ms) s m args below meth c H locs uc us (cQv below args s D dA o A (rC_match mc ms) post) (F0 m 8 ls [])) (hT56 : ∀ (x1 : Int32) (x2 : Int32) (x3 : Int32) (x4 : Int32) (uc : Nat) (us : Nat) (S : CS), T56 x1 x2 x3 x4 uc us S → uc ≤ mc ∧ us ≤ ms → ∀ (H : Heap) (locs : List Loc) (ls : Array Slot), lv_has ls 10 [(0, .ref (o 0)), (1, .int x1), (2, .int x2), (3, .int x3), (4, .int x4)] → cw D dA o A s S H locs → W p l e (rC_match mc ms) s m args below meth c H locs uc us (cQv below args s D dA o A (rC_match mc ms) post) (F0 m 56 ls [])) (hT84 : ∀ (x1 : Int32) (x2 : Int32) (x3 : Int32) (x4 : Int32) (x5 : Int64) (x7 : Int32) (uc : Nat) (us : Nat) (S : CS), T84 x1 x2 x3 x4 x5 x7 uc us S → uc ≤ mc ∧ us ≤ ms → ∀ (H : Heap) (locs : List Loc) (ls : Array Slot), lv_has ls 10 [(0, .ref (o 0)), (1, .int x1), (2, .int x2), (3, .int x3), (4, .int x4), (5, .long x5), (7, .int x7)] → cw D dA o A s S H locs → W p l e (rC_match mc ms) s m args below meth c H locs uc us (cQv below args s D dA o A (rC_match mc ms) post) (F0 m 84 ls [])) {x1 : Int32} {x2 : Int32} {x3 : Int32} {x4 : Int32} {uc : Nat} {us : Nat} {S : CS} (h : C_match_w8 mc ms post T8 T56 T84 x1 x2 x3 x4 uc us S) (hu : uc ≤ mc ∧ us ≤ ms) {H : Heap} {locs : List Loc} {ls : Array Slot} (hl : lv_has ls 10 [(0, .ref (o 0)), (1, .int x1), (2, .int x2), (3, .int x3), (4, .int x4)]) (w : cw D dA o A s S H locs) : W p l e (rC_match mc ms) s m args below meth c H locs uc us (cQv below args s D dA o A (rC_match mc ms) post) (F0 m 8 ls []) := by
  unfold C_match_w8 at h
  obtain ⟨⟨hx, hb, hml, hown, hts⟩, hr, hlk, hA⟩ := id C
  refine lv_iload hx hb dX0_match_8 (lv_at hl 4 rfl) ?_
  refine lv_aload_n hx hb dX0_match_10 rfl (lv_at hl 0 rfl) ?_
  refine cr_get C w 0 rfl rfl in_X0 9 (by decide) q173 rfl rfl dX0_match_11 ?_
  obtain ⟨h1, h2⟩ := h
  refine lv_icmp_ge (tgt := 53) hx hb dX0_match_14 (by decide) (fun c1 => ?_) (fun c1 => ?_)
  · have h := h1 c1
    refine lv_iconst (v := 0) hx hb dX0_match_53 (by decide) ?_
    refine lv_istore (lv' := [(4, .int _), (0, .ref _), (1, .int _), (2, .int _), (3, .int _)]) hx hb dX0_match_54 hl (by decide) rfl (fun ls hl => ?_)
    exact hT56 _ _ _ _ _ _ _ h hu _ _ _ (lv_sub hl [1, 2, 3, 4, 0] rfl) w
  · have h := h2 c1
    refine lv_aload_n hx hb dX0_match_17 rfl (lv_at hl 0 rfl) ?_
    refine lv_aload_n hx hb dX0_match_18 rfl (lv_at hl 0 rfl) ?_
    refine cr_get C w 0 rfl rfl in_X0 8 (by decide) q172 rfl rfl dX0_match_19 ?_
    refine lv_iload hx hb dX0_match_22 (lv_at hl 4 rfl) ?_
    obtain ⟨hpk, hi, r1, hr1, h⟩ := h
    refine cr_oald C w hpk hi dX0_match_24 ?_
    refine cr_opt hr1 ?_
    refine lv_iload_n hx hb dX0_match_25 rfl (lv_at hl 1 rfl) ?_
    refine lv_iload_n hx hb dX0_match_26 rfl (lv_at hl 2 rfl) ?_
    refine lv_iload_n hx hb dX0_match_27 rfl (lv_at hl 3 rfl) ?_
    refine cr_callVL (rest := []) (b := (fun o => o 0)) C w h (recv0 w) (cwV 4 hts (lw_V q449 q451 qs18 q82 q452) rfl rfl rfl C_off_d ⟨Nat.le_of_ble_eq_true rfl, Nat.le_of_ble_eq_true rfl⟩) rfl hl.1 rfl (Nat.le_of_ble_eq_true rfl) hu dX0_match_28 (fun r2 S2 H locs h w => ?_)
    refine lv_lconst (v := 0) hx hb dX0_match_31 (by decide) ?_
    refine W.lcmp hx hb dX0_match_32 ?_
    obtain ⟨h1, h2⟩ := h
    refine lv_if_ne (tgt := 47) hx hb dX0_match_33 (by decide) (fun c1 => ?_) (fun c1 => ?_)
    · have h := h1 (mt (lg_cmp_eq _ _).mpr c1)
      exact C_match_a47 C hT8 hT56 hT84 h hu (lv_sub hl [0, 1, 2, 3, 4] rfl) w
    · have h := h2 ((lg_cmp_eq _ _).mp c1)
      refine lv_aload_n hx hb dX0_match_36 rfl (lv_at hl 0 rfl) ?_
      refine lv_aload_n hx hb dX0_match_37 rfl (lv_at hl 0 rfl) ?_
      refine cr_get C w 0 rfl rfl in_X0 8 (by decide) q172 rfl rfl dX0_match_38 ?_
      refine lv_iload hx hb dX0_match_41 (lv_at hl 4 rfl) ?_
      obtain ⟨hpk, hi, r3, hr3, h⟩ := h
      refine cr_oald C w hpk hi dX0_match_43 ?_
      refine cr_opt hr3 ?_
      obtain ⟨kc4, ks4, hc1, hs1, h⟩ := h
      refine cr_callVV (rest := []) (b := (fun o => o 0)) C w h (recv0 w) (cwV 1 hts (lw_V q438 q440 qs16 q82 q441) rfl rfl rfl C_keep_d ⟨Nat.le_of_ble_eq_true rfl, Nat.le_of_ble_eq_true rfl⟩) rfl hl.1 rfl (Nat.le_of_ble_eq_true rfl) ⟨hc1, hs1⟩ dX0_match_44 (fun S4 H locs h w => ?_)
      have hu : (uc + kc4) ≤ mc ∧ (us + ks4) ≤ ms := ⟨hc1, hs1⟩
      exact C_match_a47 C hT8 hT56 hT84 h hu (lv_sub hl [0, 1, 2, 3, 4] rfl) w
def C_match_w0 (mc ms : Nat) (post : CS → Prop) (T8 : Int32 → Int32 → Int32 → Int32 → Nat → Nat → CS → Prop) (T56 : Int32 → Int32 → Int32 → Int32 → Nat → Nat → CS → Prop) (T84 : Int32 → Int32 → Int32 → Int32 → Int64 → Int32 → Nat → Nat → CS → Prop) (x1 : Int32) (x2 : Int32) (x3 : Int32) (uc : Nat) (us : Nat) (S : CS) : Prop :=
  (fun (S1 : CS) => T8 x1 x2 x3 (0 : Int32) uc us S1) (tF S 12 (0 : Int32))
set_option maxHeartbeats 4000000 in
set_option maxRecDepth 100000 in
theorem C_match_a0 {p : Program} {l : Launch} {e : Env} {s : State} {m : MethodId} {args : Array Value} {below : List Frame} {meth : Method} {c : Code} {D : va_G} {dA : Nat → ClassId} {o : Nat → Nat} {A : Nat → Prop} {mc ms : Nat} {post : CS → Prop} {T8 : Int32 → Int32 → Int32 → Int32 → Nat → Nat → CS → Prop} {T56 : Int32 → Int32 → Int32 → Int32 → Nat → Nat → CS → Prop} {T84 : Int32 → Int32 → Int32 → Int32 → Int64 → Int32 → Nat → Nat → CS → Prop} (C : cC RX0 p m c cX0_match 10 s args meth (Option.none : Option Jvm.ClassFile.FieldType) A) (hT8 : ∀ (x1 : Int32) (x2 : Int32) (x3 : Int32) (x4 : Int32) (uc : Nat) (us : Nat) (S : CS), T8 x1 x2 x3 x4 uc us S → uc ≤ mc ∧ us ≤ ms → ∀ (H : Heap) (locs : List Loc) (ls : Array Slot), lv_has ls 10 [(0, .ref (o 0)), (1, .int x1), (2, .int x2), (3, .int x3), (4, .int x4)] → cw D dA o A s S H locs → W p l e (rC_match mc ms) s m args below meth c H locs uc us (cQv below args s D dA o A (rC_match mc ms) post) (F0 m 8 ls [])) (hT56 : ∀ (x1 : Int32) (x2 : Int32) (x3 : Int32) (x4 : Int32) (uc : Nat) (us : Nat) (S : CS), T56 x1 x2 x3 x4 uc us S → uc ≤ mc ∧ us ≤ ms → ∀ (H : Heap) (locs : List Loc) (ls : Array Slot), lv_has ls 10 [(0, .ref (o 0)), (1, .int x1), (2, .int x2), (3, .int x3), (4, .int x4)] → cw D dA o A s S H locs → W p l e (rC_match mc ms) s m args below meth c H locs uc us (cQv below args s D dA o A (rC_match mc ms) post) (F0 m 56 ls [])) (hT84 : ∀ (x1 : Int32) (x2 : Int32) (x3 : Int32) (x4 : Int32) (x5 : Int64) (x7 : Int32) (uc : Nat) (us : Nat) (S : CS), T84 x1 x2 x3 x4 x5 x7 uc us S → uc ≤ mc ∧ us ≤ ms → ∀ (H : Heap) (locs : List Loc) (ls : Array Slot), lv_has ls 10 [(0, .ref (o 0)), (1, .int x1), (2, .int x2), (3, .int x3), (4, .int x4), (5, .long x5), (7, .int x7)] → cw D dA o A s S H locs → W p l e (rC_match mc ms) s m args below meth c H locs uc us (cQv below args s D dA o A (rC_match mc ms) post) (F0 m 84 ls [])) {x1 : Int32} {x2 : Int32} {x3 : Int32} {uc : Nat} {us : Nat} {S : CS} (h : C_match_w0 mc ms post T8 T56 T84 x1 x2 x3 uc us S) (hu : uc ≤ mc ∧ us ≤ ms) {H : Heap} {locs : List Loc} {ls : Array Slot} (hl : lv_has ls 10 [(0, .ref (o 0)), (1, .int x1), (2, .int x2), (3, .int x3)]) (w : cw D dA o A s S H locs) : W p l e (rC_match mc ms) s m args below meth c H locs uc us (cQv below args s D dA o A (rC_match mc ms) post) (F0 m 0 ls []) := by
  unfold C_match_w0 at h
  obtain ⟨⟨hx, hb, hml, hown, hts⟩, hr, hlk, hA⟩ := id C
  refine lv_aload_n hx hb dX0_match_0 rfl (lv_at hl 0 rfl) ?_
  refine lv_iconst (v := 0) hx hb dX0_match_1 (by decide) ?_
  refine cr_put (ty := .int) C w 12 (by decide) q176 rfl rfl (by decide +kernel) rfl rfl CWf_12 dX0_match_2 (fun H locs w => ?_)
  refine lv_iconst (v := 0) hx hb dX0_match_5 (by decide) ?_
  refine lv_istore (lv' := [(4, .int _), (0, .ref _), (1, .int _), (2, .int _), (3, .int _)]) hx hb dX0_match_6 hl (by decide) rfl (fun ls hl => ?_)
  exact hT8 _ _ _ _ _ _ _ h hu _ _ _ (lv_sub hl [1, 2, 3, 4, 0] rfl) w
def C_match_VC (mc ms : Nat) (x1 : Int32) (x2 : Int32) (x3 : Int32) (S : CS) (post : CS → Prop) : Prop := ∀ (T8 : Int32 → Int32 → Int32 → Int32 → Nat → Nat → CS → Prop) (T56 : Int32 → Int32 → Int32 → Int32 → Nat → Nat → CS → Prop) (T84 : Int32 → Int32 → Int32 → Int32 → Int64 → Int32 → Nat → Nat → CS → Prop), (∀ (x1 : Int32) (x2 : Int32) (x3 : Int32) (x4 : Int32) (uc : Nat) (us : Nat) (S : CS), C_match_w8 mc ms post T8 T56 T84 x1 x2 x3 x4 uc us S → T8 x1 x2 x3 x4 uc us S) → (∀ (x1 : Int32) (x2 : Int32) (x3 : Int32) (x4 : Int32) (uc : Nat) (us : Nat) (S : CS), C_match_w56 mc ms post T8 T56 T84 x1 x2 x3 x4 uc us S → T56 x1 x2 x3 x4 uc us S) → (∀ (x1 : Int32) (x2 : Int32) (x3 : Int32) (x4 : Int32) (x5 : Int64) (x7 : Int32) (uc : Nat) (us : Nat) (S : CS), C_match_w84 mc ms post T8 T56 T84 x1 x2 x3 x4 x5 x7 uc us S → T84 x1 x2 x3 x4 x5 x7 uc us S) → C_match_w0 mc ms post T8 T56 T84 x1 x2 x3 0 0 S
theorem C_match_ok {mc ms : Nat} {x1 : Int32} {x2 : Int32} {x3 : Int32} {S : CS} {post : CS → Prop} (h : C_match_VC mc ms x1 x2 x3 S post) : C_match mc ms x1 x2 x3 S post := by
  intro l D dA o sz
  refine cr_start (fun A => va_Qv post (cB D dA o A) A) rfl (Nat.le_of_ble_eq_true rfl) (by decide) ?_
  intro p e s m args below meth c ls A C w hl
  have hl : lv_has ls 10 [(0, .ref (o 0)), (1, .int x1), (2, .int x2), (3, .int x3)] := hl
  have h := h (fun (x1 : Int32) (x2 : Int32) (x3 : Int32) (x4 : Int32) (uc : Nat) (us : Nat) S => uc ≤ mc ∧ us ≤ ms → ∀ (H : Heap) (locs : List Loc) (ls : Array Slot), lv_has ls 10 [(0, .ref (o 0)), (1, .int x1), (2, .int x2), (3, .int x3), (4, .int x4)] → cw D dA o A s S H locs → W p l e (rC_match mc ms) s m args below meth c H locs uc us (cQv below args s D dA o A (rC_match mc ms) post) (F0 m 8 ls [])) (fun (x1 : Int32) (x2 : Int32) (x3 : Int32) (x4 : Int32) (uc : Nat) (us : Nat) S => uc ≤ mc ∧ us ≤ ms → ∀ (H : Heap) (locs : List Loc) (ls : Array Slot), lv_has ls 10 [(0, .ref (o 0)), (1, .int x1), (2, .int x2), (3, .int x3), (4, .int x4)] → cw D dA o A s S H locs → W p l e (rC_match mc ms) s m args below meth c H locs uc us (cQv below args s D dA o A (rC_match mc ms) post) (F0 m 56 ls [])) (fun (x1 : Int32) (x2 : Int32) (x3 : Int32) (x4 : Int32) (x5 : Int64) (x7 : Int32) (uc : Nat) (us : Nat) S => uc ≤ mc ∧ us ≤ ms → ∀ (H : Heap) (locs : List Loc) (ls : Array Slot), lv_has ls 10 [(0, .ref (o 0)), (1, .int x1), (2, .int x2), (3, .int x3), (4, .int x4), (5, .long x5), (7, .int x7)] → cw D dA o A s S H locs → W p l e (rC_match mc ms) s m args below meth c H locs uc us (cQv below args s D dA o A (rC_match mc ms) post) (F0 m 84 ls [])) (fun _ _ _ _ _ _ S h hu H locs ls hl w => C_match_a8 C (fun _ _ _ _ _ _ _ h => h) (fun _ _ _ _ _ _ _ h => h) (fun _ _ _ _ _ _ _ _ _ h => h) h hu hl w) (fun _ _ _ _ _ _ S h hu H locs ls hl w => C_match_a56 C (fun _ _ _ _ _ _ _ h => h) (fun _ _ _ _ _ _ _ h => h) (fun _ _ _ _ _ _ _ _ _ h => h) h hu hl w) (fun _ _ _ _ _ _ _ _ S h hu H locs ls hl w => C_match_a84 C (fun _ _ _ _ _ _ _ h => h) (fun _ _ _ _ _ _ _ h => h) (fun _ _ _ _ _ _ _ _ _ h => h) h hu hl w)
  exact C_match_a0 C (fun _ _ _ _ _ _ _ h => h) (fun _ _ _ _ _ _ _ h => h) (fun _ _ _ _ _ _ _ _ _ h => h) h ⟨Nat.zero_le _, Nat.zero_le _⟩ (lv_sub hl [0, 1, 2, 3] rfl) w

/-! ThirdSheets.isLess([J[J)Z -/
def C_isLess_w45 (post : Int32 → CS → Prop) (T2 : Nat → Nat → Int32 → CS → Prop) (v0 : Int32) (S : CS) : Prop :=
  (zok v0 ∧ post v0 S)
set_option maxHeartbeats 4000000 in
set_option maxRecDepth 100000 in
theorem C_isLess_a45 {p : Program} {l : Launch} {e : Env} {s : State} {m : MethodId} {args : Array Value} {below : List Frame} {meth : Method} {c : Code} {D : va_G} {dA : Nat → ClassId} {o : Nat → Nat} {A : Nat → Prop} {post : Int32 → CS → Prop} {T2 : Nat → Nat → Int32 → CS → Prop} (C : cC RX0 p m c cX0_isLess 3 s args meth (Option.some Jvm.ClassFile.FieldType.boolean) A) (hT2 : ∀ (a0 : Nat) (a1 : Nat) (x2 : Int32) (S : CS), T2 a0 a1 x2 S → ∀ (H : Heap) (locs : List Loc) (ls : Array Slot), lv_has ls 3 [(0, .ref a0), (1, .ref a1), (2, .int x2)] → cw D dA o A s S H locs → W p l e (rC_isLess) s m args below meth c H locs 0 0 (cQi below args s D dA o A (rC_isLess) post) (F0 m 2 ls [])) {v0 : Int32} {S : CS} (h : C_isLess_w45 post T2 v0 S) {H : Heap} {locs : List Loc} {ls : Array Slot} (hl : lv_has ls 3 []) (w : cw D dA o A s S H locs) : W p l e (rC_isLess) s m args below meth c H locs 0 0 (cQi below args s D dA o A (rC_isLess) post) (F0 m 45 ls [.int v0]) := by
  unfold C_isLess_w45 at h
  obtain ⟨⟨hx, hb, hml, hown, hts⟩, hr, hlk, hA⟩ := id C
  exact cr_zret C w (zok_n h.1) h.2 (Nat.le_of_ble_eq_true rfl) (Nat.le_of_ble_eq_true rfl) dX0_isLess_45
def C_isLess_w44 (post : Int32 → CS → Prop) (T2 : Nat → Nat → Int32 → CS → Prop) (S : CS) : Prop :=
  C_isLess_w45 post T2 (0 : Int32) S
set_option maxHeartbeats 4000000 in
set_option maxRecDepth 100000 in
theorem C_isLess_a44 {p : Program} {l : Launch} {e : Env} {s : State} {m : MethodId} {args : Array Value} {below : List Frame} {meth : Method} {c : Code} {D : va_G} {dA : Nat → ClassId} {o : Nat → Nat} {A : Nat → Prop} {post : Int32 → CS → Prop} {T2 : Nat → Nat → Int32 → CS → Prop} (C : cC RX0 p m c cX0_isLess 3 s args meth (Option.some Jvm.ClassFile.FieldType.boolean) A) (hT2 : ∀ (a0 : Nat) (a1 : Nat) (x2 : Int32) (S : CS), T2 a0 a1 x2 S → ∀ (H : Heap) (locs : List Loc) (ls : Array Slot), lv_has ls 3 [(0, .ref a0), (1, .ref a1), (2, .int x2)] → cw D dA o A s S H locs → W p l e (rC_isLess) s m args below meth c H locs 0 0 (cQi below args s D dA o A (rC_isLess) post) (F0 m 2 ls [])) {S : CS} (h : C_isLess_w44 post T2 S) {H : Heap} {locs : List Loc} {ls : Array Slot} (hl : lv_has ls 3 []) (w : cw D dA o A s S H locs) : W p l e (rC_isLess) s m args below meth c H locs 0 0 (cQi below args s D dA o A (rC_isLess) post) (F0 m 44 ls []) := by
  unfold C_isLess_w44 at h
  obtain ⟨⟨hx, hb, hml, hown, hts⟩, hr, hlk, hA⟩ := id C
  refine lv_iconst (v := 0) hx hb dX0_isLess_44 (by decide) ?_
  exact C_isLess_a45 C hT2 h (lv_sub hl [] rfl) w
def C_isLess_w24 (post : Int32 → CS → Prop) (T2 : Nat → Nat → Int32 → CS → Prop) (a0 : Nat) (a1 : Nat) (x2 : Int32) (S : CS) : Prop :=
  (pk S a0 3 ∧ (((nI (kN S a0)) ≤ x2 → C_isLess_w44 post T2 S) ∧ (¬ (nI (kN S a0)) ≤ x2 → (pk S a0 3 ∧ vp_in x2 (kN S a0) ∧ (pk S a1 3 ∧ vp_in x2 (kN S a1) ∧ (((kR S a1 (x2).toNatClampNeg) ≤ (kR S a0 (x2).toNatClampNeg) → C_isLess_w44 post T2 S) ∧ (¬ (kR S a1 (x2).toNatClampNeg) ≤ (kR S a0 (x2).toNatClampNeg) → C_isLess_w45 post T2 (1 : Int32) S)))))))
set_option maxHeartbeats 4000000 in
set_option maxRecDepth 100000 in
theorem C_isLess_a24 {p : Program} {l : Launch} {e : Env} {s : State} {m : MethodId} {args : Array Value} {below : List Frame} {meth : Method} {c : Code} {D : va_G} {dA : Nat → ClassId} {o : Nat → Nat} {A : Nat → Prop} {post : Int32 → CS → Prop} {T2 : Nat → Nat → Int32 → CS → Prop} (C : cC RX0 p m c cX0_isLess 3 s args meth (Option.some Jvm.ClassFile.FieldType.boolean) A) (hT2 : ∀ (a0 : Nat) (a1 : Nat) (x2 : Int32) (S : CS), T2 a0 a1 x2 S → ∀ (H : Heap) (locs : List Loc) (ls : Array Slot), lv_has ls 3 [(0, .ref a0), (1, .ref a1), (2, .int x2)] → cw D dA o A s S H locs → W p l e (rC_isLess) s m args below meth c H locs 0 0 (cQi below args s D dA o A (rC_isLess) post) (F0 m 2 ls [])) {a0 : Nat} {a1 : Nat} {x2 : Int32} {S : CS} (h : C_isLess_w24 post T2 a0 a1 x2 S) {H : Heap} {locs : List Loc} {ls : Array Slot} (hl : lv_has ls 3 [(0, .ref a0), (1, .ref a1), (2, .int x2)]) (w : cw D dA o A s S H locs) : W p l e (rC_isLess) s m args below meth c H locs 0 0 (cQi below args s D dA o A (rC_isLess) post) (F0 m 24 ls []) := by
  unfold C_isLess_w24 at h
  obtain ⟨⟨hx, hb, hml, hown, hts⟩, hr, hlk, hA⟩ := id C
  refine lv_iload_n hx hb dX0_isLess_24 rfl (lv_at hl 2 rfl) ?_
  refine lv_aload_n hx hb dX0_isLess_25 rfl (lv_at hl 0 rfl) ?_
  obtain ⟨hpk, h⟩ := h
  refine cr_rlen C w hpk dX0_isLess_26 ?_
  obtain ⟨h1, h2⟩ := h
  refine lv_icmp_ge (tgt := 44) hx hb dX0_isLess_27 (by decide) (fun c1 => ?_) (fun c1 => ?_)
  · have h := h1 c1
    exact C_isLess_a44 C hT2 h (lv_sub hl [] rfl) w
  · have h := h2 c1
    refine lv_aload_n hx hb dX0_isLess_30 rfl (lv_at hl 0 rfl) ?_
    refine lv_iload_n hx hb dX0_isLess_31 rfl (lv_at hl 2 rfl) ?_
    obtain ⟨hpk, hi, h⟩ := h
    refine cr_rald C w hpk hi dX0_isLess_32 ?_
    refine lv_aload_n hx hb dX0_isLess_33 rfl (lv_at hl 1 rfl) ?_
    refine lv_iload_n hx hb dX0_isLess_34 rfl (lv_at hl 2 rfl) ?_
    obtain ⟨hpk, hi, h⟩ := h
    refine cr_rald C w hpk hi dX0_isLess_35 ?_
    refine W.lcmp hx hb dX0_isLess_36 ?_
    obtain ⟨h1, h2⟩ := h
    refine lv_if_ge (tgt := 44) hx hb dX0_isLess_37 (by decide) (fun c1 => ?_) (fun c1 => ?_)
    · have h := h1 ((lg_cmp_ge _ _).mp c1)
      exact C_isLess_a44 C hT2 h (lv_sub hl [] rfl) w
    · have h := h2 (mt (lg_cmp_ge _ _).mpr c1)
      refine lv_iconst (v := 1) hx hb dX0_isLess_40 (by decide) ?_
      refine lv_goto (tgt := 45) hx hb dX0_isLess_41 (by decide) ?_
      exact C_isLess_a45 C hT2 h (lv_sub hl [] rfl) w
def C_isLess_w2 (post : Int32 → CS → Prop) (T2 : Nat → Nat → Int32 → CS → Prop) (a0 : Nat) (a1 : Nat) (x2 : Int32) (S : CS) : Prop :=
  (pk S a0 3 ∧ (((nI (kN S a0)) ≤ x2 → C_isLess_w24 post T2 a0 a1 x2 S) ∧ (¬ (nI (kN S a0)) ≤ x2 → (pk S a0 3 ∧ vp_in x2 (kN S a0) ∧ (pk S a1 3 ∧ vp_in x2 (kN S a1) ∧ ((¬ (kR S a0 (x2).toNatClampNeg) = (kR S a1 (x2).toNatClampNeg) → C_isLess_w24 post T2 a0 a1 x2 S) ∧ ((kR S a0 (x2).toNatClampNeg) = (kR S a1 (x2).toNatClampNeg) → T2 a0 a1 (x2 + (1 : Int32)) S)))))))
set_option maxHeartbeats 4000000 in
set_option maxRecDepth 100000 in
theorem C_isLess_a2 {p : Program} {l : Launch} {e : Env} {s : State} {m : MethodId} {args : Array Value} {below : List Frame} {meth : Method} {c : Code} {D : va_G} {dA : Nat → ClassId} {o : Nat → Nat} {A : Nat → Prop} {post : Int32 → CS → Prop} {T2 : Nat → Nat → Int32 → CS → Prop} (C : cC RX0 p m c cX0_isLess 3 s args meth (Option.some Jvm.ClassFile.FieldType.boolean) A) (hT2 : ∀ (a0 : Nat) (a1 : Nat) (x2 : Int32) (S : CS), T2 a0 a1 x2 S → ∀ (H : Heap) (locs : List Loc) (ls : Array Slot), lv_has ls 3 [(0, .ref a0), (1, .ref a1), (2, .int x2)] → cw D dA o A s S H locs → W p l e (rC_isLess) s m args below meth c H locs 0 0 (cQi below args s D dA o A (rC_isLess) post) (F0 m 2 ls [])) {a0 : Nat} {a1 : Nat} {x2 : Int32} {S : CS} (h : C_isLess_w2 post T2 a0 a1 x2 S) {H : Heap} {locs : List Loc} {ls : Array Slot} (hl : lv_has ls 3 [(0, .ref a0), (1, .ref a1), (2, .int x2)]) (w : cw D dA o A s S H locs) : W p l e (rC_isLess) s m args below meth c H locs 0 0 (cQi below args s D dA o A (rC_isLess) post) (F0 m 2 ls []) := by
  unfold C_isLess_w2 at h
  obtain ⟨⟨hx, hb, hml, hown, hts⟩, hr, hlk, hA⟩ := id C
  refine lv_iload_n hx hb dX0_isLess_2 rfl (lv_at hl 2 rfl) ?_
  refine lv_aload_n hx hb dX0_isLess_3 rfl (lv_at hl 0 rfl) ?_
  obtain ⟨hpk, h⟩ := h
  refine cr_rlen C w hpk dX0_isLess_4 ?_
  obtain ⟨h1, h2⟩ := h
  refine lv_icmp_ge (tgt := 24) hx hb dX0_isLess_5 (by decide) (fun c1 => ?_) (fun c1 => ?_)
  · have h := h1 c1
    exact C_isLess_a24 C hT2 h (lv_sub hl [0, 1, 2] rfl) w
  · have h := h2 c1
    refine lv_aload_n hx hb dX0_isLess_8 rfl (lv_at hl 0 rfl) ?_
    refine lv_iload_n hx hb dX0_isLess_9 rfl (lv_at hl 2 rfl) ?_
    obtain ⟨hpk, hi, h⟩ := h
    refine cr_rald C w hpk hi dX0_isLess_10 ?_
    refine lv_aload_n hx hb dX0_isLess_11 rfl (lv_at hl 1 rfl) ?_
    refine lv_iload_n hx hb dX0_isLess_12 rfl (lv_at hl 2 rfl) ?_
    obtain ⟨hpk, hi, h⟩ := h
    refine cr_rald C w hpk hi dX0_isLess_13 ?_
    refine W.lcmp hx hb dX0_isLess_14 ?_
    obtain ⟨h1, h2⟩ := h
    refine lv_if_ne (tgt := 24) hx hb dX0_isLess_15 (by decide) (fun c1 => ?_) (fun c1 => ?_)
    · have h := h1 (mt (lg_cmp_eq _ _).mpr c1)
      exact C_isLess_a24 C hT2 h (lv_sub hl [0, 1, 2] rfl) w
    · have h := h2 ((lg_cmp_eq _ _).mp c1)
      refine lv_iinc (v := _ + (1 : Int32)) (lv' := [(2, .int _), (0, .ref _), (1, .ref _)]) hx hb dX0_isLess_18 hl (k := 2) rfl rfl (by decide) rfl (fun ls hl => ?_)
      refine lv_goto (tgt := 2) hx hb dX0_isLess_21 (by decide) ?_
      exact hT2 _ _ _ _ h _ _ _ (lv_sub hl [1, 2, 0] rfl) w
def C_isLess_w0 (post : Int32 → CS → Prop) (T2 : Nat → Nat → Int32 → CS → Prop) (a0 : Nat) (a1 : Nat) (S : CS) : Prop :=
  T2 a0 a1 (0 : Int32) S
set_option maxHeartbeats 4000000 in
set_option maxRecDepth 100000 in
theorem C_isLess_a0 {p : Program} {l : Launch} {e : Env} {s : State} {m : MethodId} {args : Array Value} {below : List Frame} {meth : Method} {c : Code} {D : va_G} {dA : Nat → ClassId} {o : Nat → Nat} {A : Nat → Prop} {post : Int32 → CS → Prop} {T2 : Nat → Nat → Int32 → CS → Prop} (C : cC RX0 p m c cX0_isLess 3 s args meth (Option.some Jvm.ClassFile.FieldType.boolean) A) (hT2 : ∀ (a0 : Nat) (a1 : Nat) (x2 : Int32) (S : CS), T2 a0 a1 x2 S → ∀ (H : Heap) (locs : List Loc) (ls : Array Slot), lv_has ls 3 [(0, .ref a0), (1, .ref a1), (2, .int x2)] → cw D dA o A s S H locs → W p l e (rC_isLess) s m args below meth c H locs 0 0 (cQi below args s D dA o A (rC_isLess) post) (F0 m 2 ls [])) {a0 : Nat} {a1 : Nat} {S : CS} (h : C_isLess_w0 post T2 a0 a1 S) {H : Heap} {locs : List Loc} {ls : Array Slot} (hl : lv_has ls 3 [(0, .ref a0), (1, .ref a1)]) (w : cw D dA o A s S H locs) : W p l e (rC_isLess) s m args below meth c H locs 0 0 (cQi below args s D dA o A (rC_isLess) post) (F0 m 0 ls []) := by
  unfold C_isLess_w0 at h
  obtain ⟨⟨hx, hb, hml, hown, hts⟩, hr, hlk, hA⟩ := id C
  refine lv_iconst (v := 0) hx hb dX0_isLess_0 (by decide) ?_
  refine lv_istore_n (lv' := [(2, .int _), (0, .ref _), (1, .ref _)]) hx hb dX0_isLess_1 rfl hl (by decide) rfl (fun ls hl => ?_)
  exact hT2 _ _ _ _ h _ _ _ (lv_sub hl [1, 2, 0] rfl) w
def C_isLess_VC (a0 : Nat) (a1 : Nat) (S : CS) (post : Int32 → CS → Prop) : Prop := ∀ (T2 : Nat → Nat → Int32 → CS → Prop), (∀ (a0 : Nat) (a1 : Nat) (x2 : Int32) (S : CS), C_isLess_w2 post T2 a0 a1 x2 S → T2 a0 a1 x2 S) → C_isLess_w0 post T2 a0 a1 S
theorem C_isLess_ok {a0 : Nat} {a1 : Nat} {S : CS} {post : Int32 → CS → Prop} (h : C_isLess_VC a0 a1 S post) : C_isLess a0 a1 S post := by
  intro l D dA o sz
  refine cr_start (fun A => va_Qi post (cB D dA o A) A) rfl (Nat.le_of_ble_eq_true rfl) (by decide) ?_
  intro p e s m args below meth c ls A C w hl
  have hl : lv_has ls 3 [(0, .ref a0), (1, .ref a1)] := hl
  have h := h (fun (a0 : Nat) (a1 : Nat) (x2 : Int32) S => ∀ (H : Heap) (locs : List Loc) (ls : Array Slot), lv_has ls 3 [(0, .ref a0), (1, .ref a1), (2, .int x2)] → cw D dA o A s S H locs → W p l e (rC_isLess) s m args below meth c H locs 0 0 (cQi below args s D dA o A (rC_isLess) post) (F0 m 2 ls [])) (fun _ _ _ S h H locs ls hl w => C_isLess_a2 C (fun _ _ _ _ h => h) h hl w)
  exact C_isLess_a0 C (fun _ _ _ _ h => h) h (lv_sub hl [0, 1] rfl) w
