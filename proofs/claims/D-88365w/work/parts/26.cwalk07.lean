/-! ThirdSheets.clean(II)Z -/
def C_clean_w156 (post : Int32 → CS → Prop) (T0 : Int32 → Int32 → CS → Prop) (T8 : Int32 → Int32 → Int32 → Int32 → Int32 → CS → Prop) (T17 : Int32 → Int32 → Int32 → Int32 → Int32 → Int32 → CS → Prop) (T156 : Int32 → Int32 → Int32 → Int32 → CS → Prop) (x1 : Int32) (x2 : Int32) (x4 : Int32) (x6 : Int32) (S : CS) : Prop :=
  ((x2 ≤ x6 → C_take x1 x2 S (fun (r1 : Int32) (S1 : CS) => ((r1 = 0 → T0 x1 x2 S1) ∧ (¬ r1 = 0 → post (1 : Int32) S1)))) ∧ (¬ x2 ≤ x6 → (pk S (kA S 6) 2 ∧ vp_in x6 (kN S (kA S 6)) ∧ ∃ r2 : Nat, kO S (kA S 6) (x6).toNatClampNeg = some r2 ∧ (pk S r2 3 ∧ vp_in x4 (kN S r2) ∧ (pk S (kA S 6) 2 ∧ vp_in x6 (kN S (kA S 6)) ∧ ∃ r3 : Nat, kO S (kA S 6) (x6).toNatClampNeg = some r3 ∧ (pk S (kA S 6) 2 ∧ vp_in x6 (kN S (kA S 6)) ∧ ∃ r4 : Nat, kO S (kA S 6) (x6).toNatClampNeg = some r4 ∧ (pk S r4 3 ∧ vp_in x1 (kN S r4) ∧ (pk S r3 3 ∧ vp_in x4 (kN S r3) ∧ (fun (S5 : CS) => (pk S5 (kA S5 6) 2 ∧ vp_in x6 (kN S5 (kA S5 6)) ∧ ∃ r6 : Nat, kO S5 (kA S5 6) (x6).toNatClampNeg = some r6 ∧ (pk S5 r6 3 ∧ vp_in x1 (kN S5 r6) ∧ (fun (S7 : CS) => T156 x1 x2 x4 (x6 + (1 : Int32)) S7) (tR S5 r6 (x1).toNatClampNeg (kR S r2 (x4).toNatClampNeg))))) (tR S r3 (x4).toNatClampNeg (kR S r4 (x1).toNatClampNeg))))))))))
set_option maxHeartbeats 4000000 in
set_option maxRecDepth 100000 in
theorem C_clean_a156 {p : Program} {l : Launch} {e : Env} {s : State} {m : MethodId} {args : Array Value} {below : List Frame} {meth : Method} {c : Code} {D : va_G} {dA : Nat → ClassId} {o : Nat → Nat} {A : Nat → Prop} {post : Int32 → CS → Prop} {T0 : Int32 → Int32 → CS → Prop} {T8 : Int32 → Int32 → Int32 → Int32 → Int32 → CS → Prop} {T17 : Int32 → Int32 → Int32 → Int32 → Int32 → Int32 → CS → Prop} {T156 : Int32 → Int32 → Int32 → Int32 → CS → Prop} (C : cC RX0 p m c cX0_clean 9 s args meth (Option.some Jvm.ClassFile.FieldType.boolean) A) (hT0 : ∀ (x1 : Int32) (x2 : Int32) (S : CS), T0 x1 x2 S → ∀ (H : Heap) (locs : List Loc) (ls : Array Slot), lv_has ls 9 [(0, .ref (o 0)), (1, .int x1), (2, .int x2)] → cw D dA o A s S H locs → W p l e (rC_clean) s m args below meth c H locs 0 0 (cQi below args s D dA o A (rC_clean) post) (F0 m 0 ls [])) (hT8 : ∀ (x1 : Int32) (x2 : Int32) (x3 : Int32) (x4 : Int32) (x5 : Int32) (S : CS), T8 x1 x2 x3 x4 x5 S → ∀ (H : Heap) (locs : List Loc) (ls : Array Slot), lv_has ls 9 [(0, .ref (o 0)), (1, .int x1), (2, .int x2), (3, .int x3), (4, .int x4), (5, .int x5)] → cw D dA o A s S H locs → W p l e (rC_clean) s m args below meth c H locs 0 0 (cQi below args s D dA o A (rC_clean) post) (F0 m 8 ls [])) (hT17 : ∀ (x1 : Int32) (x2 : Int32) (x3 : Int32) (x4 : Int32) (x5 : Int32) (x6 : Int32) (S : CS), T17 x1 x2 x3 x4 x5 x6 S → ∀ (H : Heap) (locs : List Loc) (ls : Array Slot), lv_has ls 9 [(0, .ref (o 0)), (1, .int x1), (2, .int x2), (3, .int x3), (4, .int x4), (5, .int x5), (6, .int x6)] → cw D dA o A s S H locs → W p l e (rC_clean) s m args below meth c H locs 0 0 (cQi below args s D dA o A (rC_clean) post) (F0 m 17 ls [])) (hT156 : ∀ (x1 : Int32) (x2 : Int32) (x4 : Int32) (x6 : Int32) (S : CS), T156 x1 x2 x4 x6 S → ∀ (H : Heap) (locs : List Loc) (ls : Array Slot), lv_has ls 9 [(0, .ref (o 0)), (1, .int x1), (2, .int x2), (4, .int x4), (6, .int x6)] → cw D dA o A s S H locs → W p l e (rC_clean) s m args below meth c H locs 0 0 (cQi below args s D dA o A (rC_clean) post) (F0 m 156 ls [])) {x1 : Int32} {x2 : Int32} {x4 : Int32} {x6 : Int32} {S : CS} (h : C_clean_w156 post T0 T8 T17 T156 x1 x2 x4 x6 S) {H : Heap} {locs : List Loc} {ls : Array Slot} (hl : lv_has ls 9 [(0, .ref (o 0)), (1, .int x1), (2, .int x2), (4, .int x4), (6, .int x6)]) (w : cw D dA o A s S H locs) : W p l e (rC_clean) s m args below meth c H locs 0 0 (cQi below args s D dA o A (rC_clean) post) (F0 m 156 ls []) := by
  unfold C_clean_w156 at h
  obtain ⟨⟨hx, hb, hml, hown, hts⟩, hr, hlk, hA⟩ := id C
  refine lv_iload hx hb dX0_clean_156 (lv_at hl 4 rfl) ?_
  refine lv_iload_n hx hb dX0_clean_158 rfl (lv_at hl 2 rfl) ?_
  obtain ⟨h1, h2⟩ := h
  refine lv_icmp_ge (tgt := 210) hx hb dX0_clean_159 (by decide) (fun c1 => ?_) (fun c1 => ?_)
  · have h := h1 c1
    refine lv_aload_n hx hb dX0_clean_210 rfl (lv_at hl 0 rfl) ?_
    refine lv_iload_n hx hb dX0_clean_211 rfl (lv_at hl 1 rfl) ?_
    refine lv_iload_n hx hb dX0_clean_212 rfl (lv_at hl 2 rfl) ?_
    refine cr_callVI (rest := []) (b := (fun o => o 0)) C w h (recv0 w) (cwV 2 hts (lw_V q426 q428 qs14 q82 q429) rfl rfl rfl C_take_d ⟨Nat.le_of_ble_eq_true rfl, Nat.le_of_ble_eq_true rfl⟩) rfl hl.1 rfl (Nat.le_of_ble_eq_true rfl) ⟨Nat.le_of_ble_eq_true rfl, Nat.le_of_ble_eq_true rfl⟩ dX0_clean_213 (fun r1 S1 H locs h w => ?_)
    obtain ⟨h1, h2⟩ := h
    refine lv_if_eq (tgt := 221) hx hb dX0_clean_216 (by decide) (fun c1 => ?_) (fun c1 => ?_)
    · have h := h1 c1
      refine lv_goto (tgt := 0) hx hb dX0_clean_221 (by decide) ?_
      exact hT0 _ _ _ h _ _ _ (lv_sub hl [0, 1, 2] rfl) w
    · have h := h2 c1
      refine lv_iconst (v := 1) hx hb dX0_clean_219 (by decide) ?_
      exact cr_zret C w rfl h (Nat.le_of_ble_eq_true rfl) (Nat.le_of_ble_eq_true rfl) dX0_clean_220
  · have h := h2 c1
    refine lv_aload_n hx hb dX0_clean_162 rfl (lv_at hl 0 rfl) ?_
    refine cr_get C w 0 rfl rfl in_X0 6 (by decide) q170 rfl rfl dX0_clean_163 ?_
    refine lv_iload hx hb dX0_clean_166 (lv_at hl 4 rfl) ?_
    obtain ⟨hpk, hi, r2, hr2, h⟩ := h
    refine cr_oald C w hpk hi dX0_clean_168 ?_
    refine cr_opt hr2 ?_
    refine lv_iload hx hb dX0_clean_169 (lv_at hl 3 rfl) ?_
    obtain ⟨hpk, hi, h⟩ := h
    refine cr_rald C w hpk hi dX0_clean_171 ?_
    refine lv_lstore (lv' := [(7, .long _), (0, .ref _), (1, .int _), (2, .int _), (4, .int _), (6, .int _)]) hx hb dX0_clean_172 hl (by decide) rfl (fun ls hl => ?_)
    refine lv_aload_n hx hb dX0_clean_174 rfl (lv_at hl 1 rfl) ?_
    refine cr_get C w 0 rfl rfl in_X0 6 (by decide) q170 rfl rfl dX0_clean_175 ?_
    refine lv_iload hx hb dX0_clean_178 (lv_at hl 5 rfl) ?_
    obtain ⟨hpk, hi, r3, hr3, h⟩ := h
    refine cr_oald C w hpk hi dX0_clean_180 ?_
    refine cr_opt hr3 ?_
    refine lv_iload hx hb dX0_clean_181 (lv_at hl 4 rfl) ?_
    refine lv_aload_n hx hb dX0_clean_183 rfl (lv_at hl 1 rfl) ?_
    refine cr_get C w 0 rfl rfl in_X0 6 (by decide) q170 rfl rfl dX0_clean_184 ?_
    refine lv_iload hx hb dX0_clean_187 (lv_at hl 5 rfl) ?_
    obtain ⟨hpk, hi, r4, hr4, h⟩ := h
    refine cr_oald C w hpk hi dX0_clean_189 ?_
    refine cr_opt hr4 ?_
    refine lv_iload_n hx hb dX0_clean_190 rfl (lv_at hl 2 rfl) ?_
    obtain ⟨hpk, hi, h⟩ := h
    refine cr_rald C w hpk hi dX0_clean_191 ?_
    obtain ⟨hpk, hi, h⟩ := h
    refine cr_rast C w hpk hi dX0_clean_192 (fun H locs w => ?_)
    refine lv_aload_n hx hb dX0_clean_193 rfl (lv_at hl 1 rfl) ?_
    refine cr_get C w 0 rfl rfl in_X0 6 (by decide) q170 rfl rfl dX0_clean_194 ?_
    refine lv_iload hx hb dX0_clean_197 (lv_at hl 5 rfl) ?_
    obtain ⟨hpk, hi, r6, hr6, h⟩ := h
    refine cr_oald C w hpk hi dX0_clean_199 ?_
    refine cr_opt hr6 ?_
    refine lv_iload_n hx hb dX0_clean_200 rfl (lv_at hl 2 rfl) ?_
    refine lv_lload hx hb dX0_clean_201 (lv_at hl 0 rfl) ?_
    obtain ⟨hpk, hi, h⟩ := h
    refine cr_rast C w hpk hi dX0_clean_203 (fun H locs w => ?_)
    refine lv_iinc (v := _ + (1 : Int32)) (lv' := [(6, .int _), (7, .long _), (0, .ref _), (1, .int _), (2, .int _), (4, .int _)]) hx hb dX0_clean_204 hl (k := 5) rfl rfl (by decide) rfl (fun ls hl => ?_)
    refine lv_goto (tgt := 156) hx hb dX0_clean_207 (by decide) ?_
    exact hT156 _ _ _ _ _ h _ _ _ (lv_sub hl [2, 3, 4, 5, 0] rfl) w
def C_clean_w104 (post : Int32 → CS → Prop) (T0 : Int32 → Int32 → CS → Prop) (T8 : Int32 → Int32 → Int32 → Int32 → Int32 → CS → Prop) (T17 : Int32 → Int32 → Int32 → Int32 → Int32 → Int32 → CS → Prop) (T156 : Int32 → Int32 → Int32 → Int32 → CS → Prop) (v0 : Int32) (x1 : Int32) (x2 : Int32) (x3 : Int32) (x5 : Int32) (x6 : Int32) (S : CS) : Prop :=
  T17 x1 x2 x3 v0 x5 (x6 + (1 : Int32)) S
set_option maxHeartbeats 4000000 in
set_option maxRecDepth 100000 in
theorem C_clean_a104 {p : Program} {l : Launch} {e : Env} {s : State} {m : MethodId} {args : Array Value} {below : List Frame} {meth : Method} {c : Code} {D : va_G} {dA : Nat → ClassId} {o : Nat → Nat} {A : Nat → Prop} {post : Int32 → CS → Prop} {T0 : Int32 → Int32 → CS → Prop} {T8 : Int32 → Int32 → Int32 → Int32 → Int32 → CS → Prop} {T17 : Int32 → Int32 → Int32 → Int32 → Int32 → Int32 → CS → Prop} {T156 : Int32 → Int32 → Int32 → Int32 → CS → Prop} (C : cC RX0 p m c cX0_clean 9 s args meth (Option.some Jvm.ClassFile.FieldType.boolean) A) (hT0 : ∀ (x1 : Int32) (x2 : Int32) (S : CS), T0 x1 x2 S → ∀ (H : Heap) (locs : List Loc) (ls : Array Slot), lv_has ls 9 [(0, .ref (o 0)), (1, .int x1), (2, .int x2)] → cw D dA o A s S H locs → W p l e (rC_clean) s m args below meth c H locs 0 0 (cQi below args s D dA o A (rC_clean) post) (F0 m 0 ls [])) (hT8 : ∀ (x1 : Int32) (x2 : Int32) (x3 : Int32) (x4 : Int32) (x5 : Int32) (S : CS), T8 x1 x2 x3 x4 x5 S → ∀ (H : Heap) (locs : List Loc) (ls : Array Slot), lv_has ls 9 [(0, .ref (o 0)), (1, .int x1), (2, .int x2), (3, .int x3), (4, .int x4), (5, .int x5)] → cw D dA o A s S H locs → W p l e (rC_clean) s m args below meth c H locs 0 0 (cQi below args s D dA o A (rC_clean) post) (F0 m 8 ls [])) (hT17 : ∀ (x1 : Int32) (x2 : Int32) (x3 : Int32) (x4 : Int32) (x5 : Int32) (x6 : Int32) (S : CS), T17 x1 x2 x3 x4 x5 x6 S → ∀ (H : Heap) (locs : List Loc) (ls : Array Slot), lv_has ls 9 [(0, .ref (o 0)), (1, .int x1), (2, .int x2), (3, .int x3), (4, .int x4), (5, .int x5), (6, .int x6)] → cw D dA o A s S H locs → W p l e (rC_clean) s m args below meth c H locs 0 0 (cQi below args s D dA o A (rC_clean) post) (F0 m 17 ls [])) (hT156 : ∀ (x1 : Int32) (x2 : Int32) (x4 : Int32) (x6 : Int32) (S : CS), T156 x1 x2 x4 x6 S → ∀ (H : Heap) (locs : List Loc) (ls : Array Slot), lv_has ls 9 [(0, .ref (o 0)), (1, .int x1), (2, .int x2), (4, .int x4), (6, .int x6)] → cw D dA o A s S H locs → W p l e (rC_clean) s m args below meth c H locs 0 0 (cQi below args s D dA o A (rC_clean) post) (F0 m 156 ls [])) {v0 : Int32} {x1 : Int32} {x2 : Int32} {x3 : Int32} {x5 : Int32} {x6 : Int32} {S : CS} (h : C_clean_w104 post T0 T8 T17 T156 v0 x1 x2 x3 x5 x6 S) {H : Heap} {locs : List Loc} {ls : Array Slot} (hl : lv_has ls 9 [(0, .ref (o 0)), (1, .int x1), (2, .int x2), (3, .int x3), (5, .int x5), (6, .int x6)]) (w : cw D dA o A s S H locs) : W p l e (rC_clean) s m args below meth c H locs 0 0 (cQi below args s D dA o A (rC_clean) post) (F0 m 104 ls [.int v0]) := by
  unfold C_clean_w104 at h
  obtain ⟨⟨hx, hb, hml, hown, hts⟩, hr, hlk, hA⟩ := id C
  refine lv_istore (lv' := [(4, .int _), (0, .ref _), (1, .int _), (2, .int _), (3, .int _), (5, .int _), (6, .int _)]) hx hb dX0_clean_104 hl (by decide) rfl (fun ls hl => ?_)
  refine lv_iinc (v := _ + (1 : Int32)) (lv' := [(6, .int _), (4, .int _), (0, .ref _), (1, .int _), (2, .int _), (3, .int _), (5, .int _)]) hx hb dX0_clean_106 hl (k := 6) rfl rfl (by decide) rfl (fun ls hl => ?_)
  refine lv_goto (tgt := 17) hx hb dX0_clean_109 (by decide) ?_
  exact hT17 _ _ _ _ _ _ _ h _ _ _ (lv_sub hl [2, 3, 4, 5, 1, 6, 0] rfl) w
def C_clean_w91 (post : Int32 → CS → Prop) (T0 : Int32 → Int32 → CS → Prop) (T8 : Int32 → Int32 → Int32 → Int32 → Int32 → CS → Prop) (T17 : Int32 → Int32 → Int32 → Int32 → Int32 → Int32 → CS → Prop) (T156 : Int32 → Int32 → Int32 → Int32 → CS → Prop) (v0 : Int32) (x1 : Int32) (x2 : Int32) (x4 : Int32) (x5 : Int32) (x6 : Int32) (x7 : Int32) (S : CS) : Prop :=
  ((x7 = 0 → C_clean_w104 post T0 T8 T17 T156 x4 x1 x2 v0 x5 x6 S) ∧ (¬ x7 = 0 → C_clean_w104 post T0 T8 T17 T156 x6 x1 x2 v0 x5 x6 S))
set_option maxHeartbeats 4000000 in
set_option maxRecDepth 100000 in
theorem C_clean_a91 {p : Program} {l : Launch} {e : Env} {s : State} {m : MethodId} {args : Array Value} {below : List Frame} {meth : Method} {c : Code} {D : va_G} {dA : Nat → ClassId} {o : Nat → Nat} {A : Nat → Prop} {post : Int32 → CS → Prop} {T0 : Int32 → Int32 → CS → Prop} {T8 : Int32 → Int32 → Int32 → Int32 → Int32 → CS → Prop} {T17 : Int32 → Int32 → Int32 → Int32 → Int32 → Int32 → CS → Prop} {T156 : Int32 → Int32 → Int32 → Int32 → CS → Prop} (C : cC RX0 p m c cX0_clean 9 s args meth (Option.some Jvm.ClassFile.FieldType.boolean) A) (hT0 : ∀ (x1 : Int32) (x2 : Int32) (S : CS), T0 x1 x2 S → ∀ (H : Heap) (locs : List Loc) (ls : Array Slot), lv_has ls 9 [(0, .ref (o 0)), (1, .int x1), (2, .int x2)] → cw D dA o A s S H locs → W p l e (rC_clean) s m args below meth c H locs 0 0 (cQi below args s D dA o A (rC_clean) post) (F0 m 0 ls [])) (hT8 : ∀ (x1 : Int32) (x2 : Int32) (x3 : Int32) (x4 : Int32) (x5 : Int32) (S : CS), T8 x1 x2 x3 x4 x5 S → ∀ (H : Heap) (locs : List Loc) (ls : Array Slot), lv_has ls 9 [(0, .ref (o 0)), (1, .int x1), (2, .int x2), (3, .int x3), (4, .int x4), (5, .int x5)] → cw D dA o A s S H locs → W p l e (rC_clean) s m args below meth c H locs 0 0 (cQi below args s D dA o A (rC_clean) post) (F0 m 8 ls [])) (hT17 : ∀ (x1 : Int32) (x2 : Int32) (x3 : Int32) (x4 : Int32) (x5 : Int32) (x6 : Int32) (S : CS), T17 x1 x2 x3 x4 x5 x6 S → ∀ (H : Heap) (locs : List Loc) (ls : Array Slot), lv_has ls 9 [(0, .ref (o 0)), (1, .int x1), (2, .int x2), (3, .int x3), (4, .int x4), (5, .int x5), (6, .int x6)] → cw D dA o A s S H locs → W p l e (rC_clean) s m args below meth c H locs 0 0 (cQi below args s D dA o A (rC_clean) post) (F0 m 17 ls [])) (hT156 : ∀ (x1 : Int32) (x2 : Int32) (x4 : Int32) (x6 : Int32) (S : CS), T156 x1 x2 x4 x6 S → ∀ (H : Heap) (locs : List Loc) (ls : Array Slot), lv_has ls 9 [(0, .ref (o 0)), (1, .int x1), (2, .int x2), (4, .int x4), (6, .int x6)] → cw D dA o A s S H locs → W p l e (rC_clean) s m args below meth c H locs 0 0 (cQi below args s D dA o A (rC_clean) post) (F0 m 156 ls [])) {v0 : Int32} {x1 : Int32} {x2 : Int32} {x4 : Int32} {x5 : Int32} {x6 : Int32} {x7 : Int32} {S : CS} (h : C_clean_w91 post T0 T8 T17 T156 v0 x1 x2 x4 x5 x6 x7 S) {H : Heap} {locs : List Loc} {ls : Array Slot} (hl : lv_has ls 9 [(0, .ref (o 0)), (1, .int x1), (2, .int x2), (4, .int x4), (5, .int x5), (6, .int x6), (7, .int x7)]) (w : cw D dA o A s S H locs) : W p l e (rC_clean) s m args below meth c H locs 0 0 (cQi below args s D dA o A (rC_clean) post) (F0 m 91 ls [.int v0]) := by
  unfold C_clean_w91 at h
  obtain ⟨⟨hx, hb, hml, hown, hts⟩, hr, hlk, hA⟩ := id C
  refine lv_istore_n (lv' := [(3, .int _), (0, .ref _), (1, .int _), (2, .int _), (4, .int _), (5, .int _), (6, .int _), (7, .int _)]) hx hb dX0_clean_91 rfl hl (by decide) rfl (fun ls hl => ?_)
  refine lv_iload hx hb dX0_clean_92 (lv_at hl 7 rfl) ?_
  obtain ⟨h1, h2⟩ := h
  refine lv_if_eq (tgt := 102) hx hb dX0_clean_94 (by decide) (fun c1 => ?_) (fun c1 => ?_)
  · have h := h1 c1
    refine lv_iload hx hb dX0_clean_102 (lv_at hl 4 rfl) ?_
    exact C_clean_a104 C hT0 hT8 hT17 hT156 h (lv_sub hl [1, 2, 3, 0, 5, 6] rfl) w
  · have h := h2 c1
    refine lv_iload hx hb dX0_clean_97 (lv_at hl 6 rfl) ?_
    refine lv_goto (tgt := 104) hx hb dX0_clean_99 (by decide) ?_
    exact C_clean_a104 C hT0 hT8 hT17 hT156 h (lv_sub hl [1, 2, 3, 0, 5, 6] rfl) w
def C_clean_w78 (post : Int32 → CS → Prop) (T0 : Int32 → Int32 → CS → Prop) (T8 : Int32 → Int32 → Int32 → Int32 → Int32 → CS → Prop) (T17 : Int32 → Int32 → Int32 → Int32 → Int32 → Int32 → CS → Prop) (T156 : Int32 → Int32 → Int32 → Int32 → CS → Prop) (v0 : Int32) (x1 : Int32) (x2 : Int32) (x3 : Int32) (x4 : Int32) (x5 : Int32) (x6 : Int32) (S : CS) : Prop :=
  ((v0 = 0 → C_clean_w91 post T0 T8 T17 T156 x3 x1 x2 x4 x5 x6 v0 S) ∧ (¬ v0 = 0 → C_clean_w91 post T0 T8 T17 T156 x5 x1 x2 x4 x5 x6 v0 S))
set_option maxHeartbeats 4000000 in
set_option maxRecDepth 100000 in
theorem C_clean_a78 {p : Program} {l : Launch} {e : Env} {s : State} {m : MethodId} {args : Array Value} {below : List Frame} {meth : Method} {c : Code} {D : va_G} {dA : Nat → ClassId} {o : Nat → Nat} {A : Nat → Prop} {post : Int32 → CS → Prop} {T0 : Int32 → Int32 → CS → Prop} {T8 : Int32 → Int32 → Int32 → Int32 → Int32 → CS → Prop} {T17 : Int32 → Int32 → Int32 → Int32 → Int32 → Int32 → CS → Prop} {T156 : Int32 → Int32 → Int32 → Int32 → CS → Prop} (C : cC RX0 p m c cX0_clean 9 s args meth (Option.some Jvm.ClassFile.FieldType.boolean) A) (hT0 : ∀ (x1 : Int32) (x2 : Int32) (S : CS), T0 x1 x2 S → ∀ (H : Heap) (locs : List Loc) (ls : Array Slot), lv_has ls 9 [(0, .ref (o 0)), (1, .int x1), (2, .int x2)] → cw D dA o A s S H locs → W p l e (rC_clean) s m args below meth c H locs 0 0 (cQi below args s D dA o A (rC_clean) post) (F0 m 0 ls [])) (hT8 : ∀ (x1 : Int32) (x2 : Int32) (x3 : Int32) (x4 : Int32) (x5 : Int32) (S : CS), T8 x1 x2 x3 x4 x5 S → ∀ (H : Heap) (locs : List Loc) (ls : Array Slot), lv_has ls 9 [(0, .ref (o 0)), (1, .int x1), (2, .int x2), (3, .int x3), (4, .int x4), (5, .int x5)] → cw D dA o A s S H locs → W p l e (rC_clean) s m args below meth c H locs 0 0 (cQi below args s D dA o A (rC_clean) post) (F0 m 8 ls [])) (hT17 : ∀ (x1 : Int32) (x2 : Int32) (x3 : Int32) (x4 : Int32) (x5 : Int32) (x6 : Int32) (S : CS), T17 x1 x2 x3 x4 x5 x6 S → ∀ (H : Heap) (locs : List Loc) (ls : Array Slot), lv_has ls 9 [(0, .ref (o 0)), (1, .int x1), (2, .int x2), (3, .int x3), (4, .int x4), (5, .int x5), (6, .int x6)] → cw D dA o A s S H locs → W p l e (rC_clean) s m args below meth c H locs 0 0 (cQi below args s D dA o A (rC_clean) post) (F0 m 17 ls [])) (hT156 : ∀ (x1 : Int32) (x2 : Int32) (x4 : Int32) (x6 : Int32) (S : CS), T156 x1 x2 x4 x6 S → ∀ (H : Heap) (locs : List Loc) (ls : Array Slot), lv_has ls 9 [(0, .ref (o 0)), (1, .int x1), (2, .int x2), (4, .int x4), (6, .int x6)] → cw D dA o A s S H locs → W p l e (rC_clean) s m args below meth c H locs 0 0 (cQi below args s D dA o A (rC_clean) post) (F0 m 156 ls [])) {v0 : Int32} {x1 : Int32} {x2 : Int32} {x3 : Int32} {x4 : Int32} {x5 : Int32} {x6 : Int32} {S : CS} (h : C_clean_w78 post T0 T8 T17 T156 v0 x1 x2 x3 x4 x5 x6 S) {H : Heap} {locs : List Loc} {ls : Array Slot} (hl : lv_has ls 9 [(0, .ref (o 0)), (1, .int x1), (2, .int x2), (3, .int x3), (4, .int x4), (5, .int x5), (6, .int x6)]) (w : cw D dA o A s S H locs) : W p l e (rC_clean) s m args below meth c H locs 0 0 (cQi below args s D dA o A (rC_clean) post) (F0 m 78 ls [.int v0]) := by
  unfold C_clean_w78 at h
  obtain ⟨⟨hx, hb, hml, hown, hts⟩, hr, hlk, hA⟩ := id C
  refine lv_istore (lv' := [(7, .int _), (0, .ref _), (1, .int _), (2, .int _), (3, .int _), (4, .int _), (5, .int _), (6, .int _)]) hx hb dX0_clean_78 hl (by decide) rfl (fun ls hl => ?_)
  refine lv_iload hx hb dX0_clean_80 (lv_at hl 0 rfl) ?_
  obtain ⟨h1, h2⟩ := h
  refine lv_if_eq (tgt := 90) hx hb dX0_clean_82 (by decide) (fun c1 => ?_) (fun c1 => ?_)
  · have h := h1 c1
    refine lv_iload_n hx hb dX0_clean_90 rfl (lv_at hl 4 rfl) ?_
    exact C_clean_a91 C hT0 hT8 hT17 hT156 h (lv_sub hl [1, 2, 3, 5, 6, 7, 0] rfl) w
  · have h := h2 c1
    refine lv_iload hx hb dX0_clean_85 (lv_at hl 6 rfl) ?_
    refine lv_goto (tgt := 91) hx hb dX0_clean_87 (by decide) ?_
    exact C_clean_a91 C hT0 hT8 hT17 hT156 h (lv_sub hl [1, 2, 3, 5, 6, 7, 0] rfl) w
def C_clean_w77 (post : Int32 → CS → Prop) (T0 : Int32 → Int32 → CS → Prop) (T8 : Int32 → Int32 → Int32 → Int32 → Int32 → CS → Prop) (T17 : Int32 → Int32 → Int32 → Int32 → Int32 → Int32 → CS → Prop) (T156 : Int32 → Int32 → Int32 → Int32 → CS → Prop) (x1 : Int32) (x2 : Int32) (x3 : Int32) (x4 : Int32) (x5 : Int32) (x6 : Int32) (S : CS) : Prop :=
  C_clean_w78 post T0 T8 T17 T156 (0 : Int32) x1 x2 x3 x4 x5 x6 S
set_option maxHeartbeats 4000000 in
set_option maxRecDepth 100000 in
theorem C_clean_a77 {p : Program} {l : Launch} {e : Env} {s : State} {m : MethodId} {args : Array Value} {below : List Frame} {meth : Method} {c : Code} {D : va_G} {dA : Nat → ClassId} {o : Nat → Nat} {A : Nat → Prop} {post : Int32 → CS → Prop} {T0 : Int32 → Int32 → CS → Prop} {T8 : Int32 → Int32 → Int32 → Int32 → Int32 → CS → Prop} {T17 : Int32 → Int32 → Int32 → Int32 → Int32 → Int32 → CS → Prop} {T156 : Int32 → Int32 → Int32 → Int32 → CS → Prop} (C : cC RX0 p m c cX0_clean 9 s args meth (Option.some Jvm.ClassFile.FieldType.boolean) A) (hT0 : ∀ (x1 : Int32) (x2 : Int32) (S : CS), T0 x1 x2 S → ∀ (H : Heap) (locs : List Loc) (ls : Array Slot), lv_has ls 9 [(0, .ref (o 0)), (1, .int x1), (2, .int x2)] → cw D dA o A s S H locs → W p l e (rC_clean) s m args below meth c H locs 0 0 (cQi below args s D dA o A (rC_clean) post) (F0 m 0 ls [])) (hT8 : ∀ (x1 : Int32) (x2 : Int32) (x3 : Int32) (x4 : Int32) (x5 : Int32) (S : CS), T8 x1 x2 x3 x4 x5 S → ∀ (H : Heap) (locs : List Loc) (ls : Array Slot), lv_has ls 9 [(0, .ref (o 0)), (1, .int x1), (2, .int x2), (3, .int x3), (4, .int x4), (5, .int x5)] → cw D dA o A s S H locs → W p l e (rC_clean) s m args below meth c H locs 0 0 (cQi below args s D dA o A (rC_clean) post) (F0 m 8 ls [])) (hT17 : ∀ (x1 : Int32) (x2 : Int32) (x3 : Int32) (x4 : Int32) (x5 : Int32) (x6 : Int32) (S : CS), T17 x1 x2 x3 x4 x5 x6 S → ∀ (H : Heap) (locs : List Loc) (ls : Array Slot), lv_has ls 9 [(0, .ref (o 0)), (1, .int x1), (2, .int x2), (3, .int x3), (4, .int x4), (5, .int x5), (6, .int x6)] → cw D dA o A s S H locs → W p l e (rC_clean) s m args below meth c H locs 0 0 (cQi below args s D dA o A (rC_clean) post) (F0 m 17 ls [])) (hT156 : ∀ (x1 : Int32) (x2 : Int32) (x4 : Int32) (x6 : Int32) (S : CS), T156 x1 x2 x4 x6 S → ∀ (H : Heap) (locs : List Loc) (ls : Array Slot), lv_has ls 9 [(0, .ref (o 0)), (1, .int x1), (2, .int x2), (4, .int x4), (6, .int x6)] → cw D dA o A s S H locs → W p l e (rC_clean) s m args below meth c H locs 0 0 (cQi below args s D dA o A (rC_clean) post) (F0 m 156 ls [])) {x1 : Int32} {x2 : Int32} {x3 : Int32} {x4 : Int32} {x5 : Int32} {x6 : Int32} {S : CS} (h : C_clean_w77 post T0 T8 T17 T156 x1 x2 x3 x4 x5 x6 S) {H : Heap} {locs : List Loc} {ls : Array Slot} (hl : lv_has ls 9 [(0, .ref (o 0)), (1, .int x1), (2, .int x2), (3, .int x3), (4, .int x4), (5, .int x5), (6, .int x6)]) (w : cw D dA o A s S H locs) : W p l e (rC_clean) s m args below meth c H locs 0 0 (cQi below args s D dA o A (rC_clean) post) (F0 m 77 ls []) := by
  unfold C_clean_w77 at h
  obtain ⟨⟨hx, hb, hml, hown, hts⟩, hr, hlk, hA⟩ := id C
  refine lv_iconst (v := 0) hx hb dX0_clean_77 (by decide) ?_
  exact C_clean_a78 C hT0 hT8 hT17 hT156 h (lv_sub hl [0, 1, 2, 3, 4, 5, 6] rfl) w
def C_clean_w73 (post : Int32 → CS → Prop) (T0 : Int32 → Int32 → CS → Prop) (T8 : Int32 → Int32 → Int32 → Int32 → Int32 → CS → Prop) (T17 : Int32 → Int32 → Int32 → Int32 → Int32 → Int32 → CS → Prop) (T156 : Int32 → Int32 → Int32 → Int32 → CS → Prop) (x1 : Int32) (x2 : Int32) (x3 : Int32) (x4 : Int32) (x5 : Int32) (x6 : Int32) (S : CS) : Prop :=
  C_clean_w78 post T0 T8 T17 T156 (1 : Int32) x1 x2 x3 x4 x5 x6 S
set_option maxHeartbeats 4000000 in
set_option maxRecDepth 100000 in
theorem C_clean_a73 {p : Program} {l : Launch} {e : Env} {s : State} {m : MethodId} {args : Array Value} {below : List Frame} {meth : Method} {c : Code} {D : va_G} {dA : Nat → ClassId} {o : Nat → Nat} {A : Nat → Prop} {post : Int32 → CS → Prop} {T0 : Int32 → Int32 → CS → Prop} {T8 : Int32 → Int32 → Int32 → Int32 → Int32 → CS → Prop} {T17 : Int32 → Int32 → Int32 → Int32 → Int32 → Int32 → CS → Prop} {T156 : Int32 → Int32 → Int32 → Int32 → CS → Prop} (C : cC RX0 p m c cX0_clean 9 s args meth (Option.some Jvm.ClassFile.FieldType.boolean) A) (hT0 : ∀ (x1 : Int32) (x2 : Int32) (S : CS), T0 x1 x2 S → ∀ (H : Heap) (locs : List Loc) (ls : Array Slot), lv_has ls 9 [(0, .ref (o 0)), (1, .int x1), (2, .int x2)] → cw D dA o A s S H locs → W p l e (rC_clean) s m args below meth c H locs 0 0 (cQi below args s D dA o A (rC_clean) post) (F0 m 0 ls [])) (hT8 : ∀ (x1 : Int32) (x2 : Int32) (x3 : Int32) (x4 : Int32) (x5 : Int32) (S : CS), T8 x1 x2 x3 x4 x5 S → ∀ (H : Heap) (locs : List Loc) (ls : Array Slot), lv_has ls 9 [(0, .ref (o 0)), (1, .int x1), (2, .int x2), (3, .int x3), (4, .int x4), (5, .int x5)] → cw D dA o A s S H locs → W p l e (rC_clean) s m args below meth c H locs 0 0 (cQi below args s D dA o A (rC_clean) post) (F0 m 8 ls [])) (hT17 : ∀ (x1 : Int32) (x2 : Int32) (x3 : Int32) (x4 : Int32) (x5 : Int32) (x6 : Int32) (S : CS), T17 x1 x2 x3 x4 x5 x6 S → ∀ (H : Heap) (locs : List Loc) (ls : Array Slot), lv_has ls 9 [(0, .ref (o 0)), (1, .int x1), (2, .int x2), (3, .int x3), (4, .int x4), (5, .int x5), (6, .int x6)] → cw D dA o A s S H locs → W p l e (rC_clean) s m args below meth c H locs 0 0 (cQi below args s D dA o A (rC_clean) post) (F0 m 17 ls [])) (hT156 : ∀ (x1 : Int32) (x2 : Int32) (x4 : Int32) (x6 : Int32) (S : CS), T156 x1 x2 x4 x6 S → ∀ (H : Heap) (locs : List Loc) (ls : Array Slot), lv_has ls 9 [(0, .ref (o 0)), (1, .int x1), (2, .int x2), (4, .int x4), (6, .int x6)] → cw D dA o A s S H locs → W p l e (rC_clean) s m args below meth c H locs 0 0 (cQi below args s D dA o A (rC_clean) post) (F0 m 156 ls [])) {x1 : Int32} {x2 : Int32} {x3 : Int32} {x4 : Int32} {x5 : Int32} {x6 : Int32} {S : CS} (h : C_clean_w73 post T0 T8 T17 T156 x1 x2 x3 x4 x5 x6 S) {H : Heap} {locs : List Loc} {ls : Array Slot} (hl : lv_has ls 9 [(0, .ref (o 0)), (1, .int x1), (2, .int x2), (3, .int x3), (4, .int x4), (5, .int x5), (6, .int x6)]) (w : cw D dA o A s S H locs) : W p l e (rC_clean) s m args below meth c H locs 0 0 (cQi below args s D dA o A (rC_clean) post) (F0 m 73 ls []) := by
  unfold C_clean_w73 at h
  obtain ⟨⟨hx, hb, hml, hown, hts⟩, hr, hlk, hA⟩ := id C
  refine lv_iconst (v := 1) hx hb dX0_clean_73 (by decide) ?_
  refine lv_goto (tgt := 78) hx hb dX0_clean_74 (by decide) ?_
  exact C_clean_a78 C hT0 hT8 hT17 hT156 h (lv_sub hl [0, 1, 2, 3, 4, 5, 6] rfl) w
def C_clean_w17 (post : Int32 → CS → Prop) (T0 : Int32 → Int32 → CS → Prop) (T8 : Int32 → Int32 → Int32 → Int32 → Int32 → CS → Prop) (T17 : Int32 → Int32 → Int32 → Int32 → Int32 → Int32 → CS → Prop) (T156 : Int32 → Int32 → Int32 → Int32 → CS → Prop) (x1 : Int32) (x2 : Int32) (x3 : Int32) (x4 : Int32) (x5 : Int32) (x6 : Int32) (S : CS) : Prop :=
  (((6 : Int32) ≤ x6 → T8 x1 x2 x3 x4 (x5 + (1 : Int32)) S) ∧ (¬ (6 : Int32) ≤ x6 → (pk S (kA S 6) 2 ∧ vp_in x5 (kN S (kA S 6)) ∧ ∃ r1 : Nat, kO S (kA S 6) (x5).toNatClampNeg = some r1 ∧ (pk S r1 3 ∧ vp_in x6 (kN S r1) ∧ (((kR S r1 (x6).toNatClampNeg) = (0 : Int64) → C_clean_w77 post T0 T8 T17 T156 x1 x2 x3 x4 x5 x6 S) ∧ (¬ (kR S r1 (x6).toNatClampNeg) = (0 : Int64) → ((x3 = (-1 : Int32) → C_clean_w73 post T0 T8 T17 T156 x1 x2 x3 x4 x5 x6 S) ∧ (¬ x3 = (-1 : Int32) → (pk S (kA S 6) 2 ∧ vp_in x5 (kN S (kA S 6)) ∧ ∃ r2 : Nat, kO S (kA S 6) (x5).toNatClampNeg = some r2 ∧ (pk S r2 3 ∧ vp_in x6 (kN S r2) ∧ (pk S (kA S 6) 2 ∧ vp_in x3 (kN S (kA S 6)) ∧ ∃ r3 : Nat, kO S (kA S 6) (x3).toNatClampNeg = some r3 ∧ (pk S r3 3 ∧ vp_in x4 (kN S r3) ∧ (((if 0 < (kR S r3 (x4).toNatClampNeg) then (kR S r3 (x4).toNatClampNeg) else -(kR S r3 (x4).toNatClampNeg)) ≤ (if 0 < (kR S r2 (x6).toNatClampNeg) then (kR S r2 (x6).toNatClampNeg) else -(kR S r2 (x6).toNatClampNeg)) → C_clean_w77 post T0 T8 T17 T156 x1 x2 x3 x4 x5 x6 S) ∧ (¬ (if 0 < (kR S r3 (x4).toNatClampNeg) then (kR S r3 (x4).toNatClampNeg) else -(kR S r3 (x4).toNatClampNeg)) ≤ (if 0 < (kR S r2 (x6).toNatClampNeg) then (kR S r2 (x6).toNatClampNeg) else -(kR S r2 (x6).toNatClampNeg)) → C_clean_w73 post T0 T8 T17 T156 x1 x2 x3 x4 x5 x6 S))))))))))))))
set_option maxHeartbeats 4000000 in
set_option maxRecDepth 100000 in
theorem C_clean_a17 {p : Program} {l : Launch} {e : Env} {s : State} {m : MethodId} {args : Array Value} {below : List Frame} {meth : Method} {c : Code} {D : va_G} {dA : Nat → ClassId} {o : Nat → Nat} {A : Nat → Prop} {post : Int32 → CS → Prop} {T0 : Int32 → Int32 → CS → Prop} {T8 : Int32 → Int32 → Int32 → Int32 → Int32 → CS → Prop} {T17 : Int32 → Int32 → Int32 → Int32 → Int32 → Int32 → CS → Prop} {T156 : Int32 → Int32 → Int32 → Int32 → CS → Prop} (C : cC RX0 p m c cX0_clean 9 s args meth (Option.some Jvm.ClassFile.FieldType.boolean) A) (hT0 : ∀ (x1 : Int32) (x2 : Int32) (S : CS), T0 x1 x2 S → ∀ (H : Heap) (locs : List Loc) (ls : Array Slot), lv_has ls 9 [(0, .ref (o 0)), (1, .int x1), (2, .int x2)] → cw D dA o A s S H locs → W p l e (rC_clean) s m args below meth c H locs 0 0 (cQi below args s D dA o A (rC_clean) post) (F0 m 0 ls [])) (hT8 : ∀ (x1 : Int32) (x2 : Int32) (x3 : Int32) (x4 : Int32) (x5 : Int32) (S : CS), T8 x1 x2 x3 x4 x5 S → ∀ (H : Heap) (locs : List Loc) (ls : Array Slot), lv_has ls 9 [(0, .ref (o 0)), (1, .int x1), (2, .int x2), (3, .int x3), (4, .int x4), (5, .int x5)] → cw D dA o A s S H locs → W p l e (rC_clean) s m args below meth c H locs 0 0 (cQi below args s D dA o A (rC_clean) post) (F0 m 8 ls [])) (hT17 : ∀ (x1 : Int32) (x2 : Int32) (x3 : Int32) (x4 : Int32) (x5 : Int32) (x6 : Int32) (S : CS), T17 x1 x2 x3 x4 x5 x6 S → ∀ (H : Heap) (locs : List Loc) (ls : Array Slot), lv_has ls 9 [(0, .ref (o 0)), (1, .int x1), (2, .int x2), (3, .int x3), (4, .int x4), (5, .int x5), (6, .int x6)] → cw D dA o A s S H locs → W p l e (rC_clean) s m args below meth c H locs 0 0 (cQi below args s D dA o A (rC_clean) post) (F0 m 17 ls [])) (hT156 : ∀ (x1 : Int32) (x2 : Int32) (x4 : Int32) (x6 : Int32) (S : CS), T156 x1 x2 x4 x6 S → ∀ (H : Heap) (locs : List Loc) (ls : Array Slot), lv_has ls 9 [(0, .ref (o 0)), (1, .int x1), (2, .int x2), (4, .int x4), (6, .int x6)] → cw D dA o A s S H locs → W p l e (rC_clean) s m args below meth c H locs 0 0 (cQi below args s D dA o A (rC_clean) post) (F0 m 156 ls [])) {x1 : Int32} {x2 : Int32} {x3 : Int32} {x4 : Int32} {x5 : Int32} {x6 : Int32} {S : CS} (h : C_clean_w17 post T0 T8 T17 T156 x1 x2 x3 x4 x5 x6 S) {H : Heap} {locs : List Loc} {ls : Array Slot} (hl : lv_has ls 9 [(0, .ref (o 0)), (1, .int x1), (2, .int x2), (3, .int x3), (4, .int x4), (5, .int x5), (6, .int x6)]) (w : cw D dA o A s S H locs) : W p l e (rC_clean) s m args below meth c H locs 0 0 (cQi below args s D dA o A (rC_clean) post) (F0 m 17 ls []) := by
  unfold C_clean_w17 at h
  obtain ⟨⟨hx, hb, hml, hown, hts⟩, hr, hlk, hA⟩ := id C
  refine lv_iload hx hb dX0_clean_17 (lv_at hl 6 rfl) ?_
  refine lv_bipush (v := 6) hx hb dX0_clean_19 (by decide) ?_
  obtain ⟨h1, h2⟩ := h
  refine lv_icmp_ge (tgt := 112) hx hb dX0_clean_21 (by decide) (fun c1 => ?_) (fun c1 => ?_)
  · have h := h1 c1
    refine lv_iinc (v := _ + (1 : Int32)) (lv' := [(5, .int _), (0, .ref _), (1, .int _), (2, .int _), (3, .int _), (4, .int _), (6, .int _)]) hx hb dX0_clean_112 hl (k := 5) rfl rfl (by decide) rfl (fun ls hl => ?_)
    refine lv_goto (tgt := 8) hx hb dX0_clean_115 (by decide) ?_
    exact hT8 _ _ _ _ _ _ h _ _ _ (lv_sub hl [1, 2, 3, 4, 5, 0] rfl) w
  · have h := h2 c1
    refine lv_aload_n hx hb dX0_clean_24 rfl (lv_at hl 0 rfl) ?_
    refine cr_get C w 0 rfl rfl in_X0 6 (by decide) q170 rfl rfl dX0_clean_25 ?_
    refine lv_iload hx hb dX0_clean_28 (lv_at hl 5 rfl) ?_
    obtain ⟨hpk, hi, r1, hr1, h⟩ := h
    refine cr_oald C w hpk hi dX0_clean_30 ?_
    refine cr_opt hr1 ?_
    refine lv_iload hx hb dX0_clean_31 (lv_at hl 6 rfl) ?_
    obtain ⟨hpk, hi, h⟩ := h
    refine cr_rald C w hpk hi dX0_clean_33 ?_
    refine lv_lconst (v := 0) hx hb dX0_clean_34 (by decide) ?_
    refine W.lcmp hx hb dX0_clean_35 ?_
    obtain ⟨h1, h2⟩ := h
    refine lv_if_eq (tgt := 77) hx hb dX0_clean_36 (by decide) (fun c1 => ?_) (fun c1 => ?_)
    · have h := h1 ((lg_cmp_eq _ _).mp c1)
      exact C_clean_a77 C hT0 hT8 hT17 hT156 h (lv_sub hl [0, 1, 2, 3, 4, 5, 6] rfl) w
    · have h := h2 (mt (lg_cmp_eq _ _).mpr c1)
      refine lv_iload_n hx hb dX0_clean_39 rfl (lv_at hl 3 rfl) ?_
      refine lv_iconst (v := -1) hx hb dX0_clean_40 (by decide) ?_
      obtain ⟨h1, h2⟩ := h
      refine lv_icmp_eq (tgt := 73) hx hb dX0_clean_41 (by decide) (fun c1 => ?_) (fun c1 => ?_)
      · have h := h1 c1
        exact C_clean_a73 C hT0 hT8 hT17 hT156 h (lv_sub hl [0, 1, 2, 3, 4, 5, 6] rfl) w
      · have h := h2 c1
        refine lv_aload_n hx hb dX0_clean_44 rfl (lv_at hl 0 rfl) ?_
        refine cr_get C w 0 rfl rfl in_X0 6 (by decide) q170 rfl rfl dX0_clean_45 ?_
        refine lv_iload hx hb dX0_clean_48 (lv_at hl 5 rfl) ?_
        obtain ⟨hpk, hi, r2, hr2, h⟩ := h
        refine cr_oald C w hpk hi dX0_clean_50 ?_
        refine cr_opt hr2 ?_
        refine lv_iload hx hb dX0_clean_51 (lv_at hl 6 rfl) ?_
        obtain ⟨hpk, hi, h⟩ := h
        refine cr_rald C w hpk hi dX0_clean_53 ?_
        refine va_mabs_long hx hb (by rw [hml]; exact hl.1.symm) hown (hts _ q423) (hts _ q424) (hts _ q89) (hts _ q425m) (Nat.le_of_ble_eq_true rfl) (Nat.le_of_ble_eq_true rfl) (Nat.le_of_ble_eq_true rfl) (Nat.le_of_ble_eq_true rfl) dX0_clean_54 ?_
        refine lv_aload_n hx hb dX0_clean_57 rfl (lv_at hl 0 rfl) ?_
        refine cr_get C w 0 rfl rfl in_X0 6 (by decide) q170 rfl rfl dX0_clean_58 ?_
        refine lv_iload_n hx hb dX0_clean_61 rfl (lv_at hl 3 rfl) ?_
        obtain ⟨hpk, hi, r3, hr3, h⟩ := h
        refine cr_oald C w hpk hi dX0_clean_62 ?_
        refine cr_opt hr3 ?_
        refine lv_iload hx hb dX0_clean_63 (lv_at hl 4 rfl) ?_
        obtain ⟨hpk, hi, h⟩ := h
        refine cr_rald C w hpk hi dX0_clean_65 ?_
        refine va_mabs_long hx hb (by rw [hml]; exact hl.1.symm) hown (hts _ q423) (hts _ q424) (hts _ q89) (hts _ q425m) (Nat.le_of_ble_eq_true rfl) (Nat.le_of_ble_eq_true rfl) (Nat.le_of_ble_eq_true rfl) (Nat.le_of_ble_eq_true rfl) dX0_clean_66 ?_
        refine W.lcmp hx hb dX0_clean_69 ?_
        obtain ⟨h1, h2⟩ := h
        refine lv_if_ge (tgt := 77) hx hb dX0_clean_70 (by decide) (fun c1 => ?_) (fun c1 => ?_)
        · have h := h1 ((lg_cmp_ge _ _).mp c1)
          exact C_clean_a77 C hT0 hT8 hT17 hT156 h (lv_sub hl [0, 1, 2, 3, 4, 5, 6] rfl) w
        · have h := h2 (mt (lg_cmp_ge _ _).mpr c1)
          exact C_clean_a73 C hT0 hT8 hT17 hT156 h (lv_sub hl [0, 1, 2, 3, 4, 5, 6] rfl) w
def C_clean_w8 (post : Int32 → CS → Prop) (T0 : Int32 → Int32 → CS → Prop) (T8 : Int32 → Int32 → Int32 → Int32 → Int32 → CS → Prop) (T17 : Int32 → Int32 → Int32 → Int32 → Int32 → Int32 → CS → Prop) (T156 : Int32 → Int32 → Int32 → Int32 → CS → Prop) (x1 : Int32) (x2 : Int32) (x3 : Int32) (x4 : Int32) (x5 : Int32) (S : CS) : Prop :=
  ((x2 ≤ x5 → ((¬ x3 = (-1 : Int32) → (pk S (kA S 6) 2 ∧ vp_in x3 (kN S (kA S 6)) ∧ ∃ r1 : Nat, kO S (kA S 6) (x3).toNatClampNeg = some r1 ∧ (pk S (kA S 6) 2 ∧ vp_in x1 (kN S (kA S 6)) ∧ ∃ r2 : Nat, kO S (kA S 6) (x1).toNatClampNeg = some r2 ∧ (pk S (kA S 6) 2 ∧ pk S r2 3 ∧ vp_in x3 (kN S (kA S 6)) ∧ (fun (S3 : CS) => (pk S3 (kA S3 6) 2 ∧ pk S3 r1 3 ∧ vp_in x1 (kN S3 (kA S3 6)) ∧ (fun (S4 : CS) => T156 x1 x2 x4 x1 S4) (tO S3 (kA S3 6) (x1).toNatClampNeg (some r1)))) (tO S (kA S 6) (x3).toNatClampNeg (some r2)))))) ∧ (x3 = (-1 : Int32) → post (0 : Int32) S))) ∧ (¬ x2 ≤ x5 → T17 x1 x2 x3 x4 x5 x1 S))
set_option maxHeartbeats 4000000 in
set_option maxRecDepth 100000 in
theorem C_clean_a8 {p : Program} {l : Launch} {e : Env} {s : State} {m : MethodId} {args : Array Value} {below : List Frame} {meth : Method} {c : Code} {D : va_G} {dA : Nat → ClassId} {o : Nat → Nat} {A : Nat → Prop} {post : Int32 → CS → Prop} {T0 : Int32 → Int32 → CS → Prop} {T8 : Int32 → Int32 → Int32 → Int32 → Int32 → CS → Prop} {T17 : Int32 → Int32 → Int32 → Int32 → Int32 → Int32 → CS → Prop} {T156 : Int32 → Int32 → Int32 → Int32 → CS → Prop} (C : cC RX0 p m c cX0_clean 9 s args meth (Option.some Jvm.ClassFile.FieldType.boolean) A) (hT0 : ∀ (x1 : Int32) (x2 : Int32) (S : CS), T0 x1 x2 S → ∀ (H : Heap) (locs : List Loc) (ls : Array Slot), lv_has ls 9 [(0, .ref (o 0)), (1, .int x1), (2, .int x2)] → cw D dA o A s S H locs → W p l e (rC_clean) s m args below meth c H locs 0 0 (cQi below args s D dA o A (rC_clean) post) (F0 m 0 ls [])) (hT8 : ∀ (x1 : Int32) (x2 : Int32) (x3 : Int32) (x4 : Int32) (x5 : Int32) (S : CS), T8 x1 x2 x3 x4 x5 S → ∀ (H : Heap) (locs : List Loc) (ls : Array Slot), lv_has ls 9 [(0, .ref (o 0)), (1, .int x1), (2, .int x2), (3, .int x3), (4, .int x4), (5, .int x5)] → cw D dA o A s S H locs → W p l e (rC_clean) s m args below meth c H locs 0 0 (cQi below args s D dA o A (rC_clean) post) (F0 m 8 ls [])) (hT17 : ∀ (x1 : Int32) (x2 : Int32) (x3 : Int32) (x4 : Int32) (x5 : Int32) (x6 : Int32) (S : CS), T17 x1 x2 x3 x4 x5 x6 S → ∀ (H : Heap) (locs : List Loc) (ls : Array Slot), lv_has ls 9 [(0, .ref (o 0)), (1, .int x1), (2, .int x2), (3, .int x3), (4, .int x4), (5, .int x5), (6, .int x6)] → cw D dA o A s S H locs → W p l e (rC_clean) s m args below meth c H locs 0 0 (cQi below args s D dA o A (rC_clean) post) (F0 m 17 ls [])) (hT156 : ∀ (x1 : Int32) (x2 : Int32) (x4 : Int32) (x6 : Int32) (S : CS), T156 x1 x2 x4 x6 S → ∀ (H : Heap) (locs : List Loc) (ls : Array Slot), lv_has ls 9 [(0, .ref (o 0)), (1, .int x1), (2, .int x2), (4, .int x4), (6, .int x6)] → cw D dA o A s S H locs → W p l e (rC_clean) s m args below meth c H locs 0 0 (cQi below args s D dA o A (rC_clean) post) (F0 m 156 ls [])) {x1 : Int32} {x2 : Int32} {x3 : Int32} {x4 : Int32} {x5 : Int32} {S : CS} (h : C_clean_w8 post T0 T8 T17 T156 x1 x2 x3 x4 x5 S) {H : Heap} {locs : List Loc} {ls : Array Slot} (hl : lv_has ls 9 [(0, .ref (o 0)), (1, .int x1), (2, .int x2), (3, .int x3), (4, .int x4), (5, .int x5)]) (w : cw D dA o A s S H locs) : W p l e (rC_clean) s m args below meth c H locs 0 0 (cQi below args s D dA o A (rC_clean) post) (F0 m 8 ls []) := by
  unfold C_clean_w8 at h
  obtain ⟨⟨hx, hb, hml, hown, hts⟩, hr, hlk, hA⟩ := id C
  refine lv_iload hx hb dX0_clean_8 (lv_at hl 5 rfl) ?_
  refine lv_iload_n hx hb dX0_clean_10 rfl (lv_at hl 2 rfl) ?_
  obtain ⟨h1, h2⟩ := h
  refine lv_icmp_ge (tgt := 118) hx hb dX0_clean_11 (by decide) (fun c1 => ?_) (fun c1 => ?_)
  · have h := h1 c1
    refine lv_iload_n hx hb dX0_clean_118 rfl (lv_at hl 3 rfl) ?_
    refine lv_iconst (v := -1) hx hb dX0_clean_119 (by decide) ?_
    obtain ⟨h1, h2⟩ := h
    refine lv_icmp_ne (tgt := 125) hx hb dX0_clean_120 (by decide) (fun c1 => ?_) (fun c1 => ?_)
    · have h := h1 c1
      refine lv_aload_n hx hb dX0_clean_125 rfl (lv_at hl 0 rfl) ?_
      refine cr_get C w 0 rfl rfl in_X0 6 (by decide) q170 rfl rfl dX0_clean_126 ?_
      refine lv_iload_n hx hb dX0_clean_129 rfl (lv_at hl 3 rfl) ?_
      obtain ⟨hpk, hi, r1, hr1, h⟩ := h
      refine cr_oald C w hpk hi dX0_clean_130 ?_
      refine cr_opt hr1 ?_
      refine lv_astore (lv' := [(5, .ref _), (0, .ref _), (1, .int _), (2, .int _), (3, .int _), (4, .int _)]) hx hb dX0_clean_131 hl (by decide) rfl (fun ls hl => ?_)
      refine lv_aload_n hx hb dX0_clean_133 rfl (lv_at hl 1 rfl) ?_
      refine cr_get C w 0 rfl rfl in_X0 6 (by decide) q170 rfl rfl dX0_clean_134 ?_
      refine lv_iload_n hx hb dX0_clean_137 rfl (lv_at hl 4 rfl) ?_
      refine lv_aload_n hx hb dX0_clean_138 rfl (lv_at hl 1 rfl) ?_
      refine cr_get C w 0 rfl rfl in_X0 6 (by decide) q170 rfl rfl dX0_clean_139 ?_
      refine lv_iload_n hx hb dX0_clean_142 rfl (lv_at hl 2 rfl) ?_
      obtain ⟨hpk, hi, r2, hr2, h⟩ := h
      refine cr_oald C w hpk hi dX0_clean_143 ?_
      refine cr_opt hr2 ?_
      obtain ⟨hpk, hpr, hi, h⟩ := h
      refine cr_oast C w hpk hpr hi dX0_clean_144 (fun H locs w => ?_)
      refine lv_aload_n hx hb dX0_clean_145 rfl (lv_at hl 1 rfl) ?_
      refine cr_get C w 0 rfl rfl in_X0 6 (by decide) q170 rfl rfl dX0_clean_146 ?_
      refine lv_iload_n hx hb dX0_clean_149 rfl (lv_at hl 2 rfl) ?_
      refine lv_aload hx hb dX0_clean_150 (lv_at hl 0 rfl) ?_
      obtain ⟨hpk, hpr, hi, h⟩ := h
      refine cr_oast C w hpk hpr hi dX0_clean_152 (fun H locs w => ?_)
      refine lv_iload_n hx hb dX0_clean_153 rfl (lv_at hl 2 rfl) ?_
      refine lv_istore (lv' := [(6, .int _), (5, .ref _), (0, .ref _), (1, .int _), (2, .int _), (3, .int _), (4, .int _)]) hx hb dX0_clean_154 hl (by decide) rfl (fun ls hl => ?_)
      exact hT156 _ _ _ _ _ h _ _ _ (lv_sub hl [2, 3, 4, 6, 0] rfl) w
    · have h := h2 c1
      refine lv_iconst (v := 0) hx hb dX0_clean_123 (by decide) ?_
      exact cr_zret C w rfl h (Nat.le_of_ble_eq_true rfl) (Nat.le_of_ble_eq_true rfl) dX0_clean_124
  · have h := h2 c1
    refine lv_iload_n hx hb dX0_clean_14 rfl (lv_at hl 1 rfl) ?_
    refine lv_istore (lv' := [(6, .int _), (0, .ref _), (1, .int _), (2, .int _), (3, .int _), (4, .int _), (5, .int _)]) hx hb dX0_clean_15 hl (by decide) rfl (fun ls hl => ?_)
    exact hT17 _ _ _ _ _ _ _ h _ _ _ (lv_sub hl [1, 2, 3, 4, 5, 6, 0] rfl) w
def C_clean_w0 (post : Int32 → CS → Prop) (T0 : Int32 → Int32 → CS → Prop) (T8 : Int32 → Int32 → Int32 → Int32 → Int32 → CS → Prop) (T17 : Int32 → Int32 → Int32 → Int32 → Int32 → Int32 → CS → Prop) (T156 : Int32 → Int32 → Int32 → Int32 → CS → Prop) (x1 : Int32) (x2 : Int32) (S : CS) : Prop :=
  T8 x1 x2 (-1 : Int32) (-1 : Int32) x1 S
set_option maxHeartbeats 4000000 in
set_option maxRecDepth 100000 in
theorem C_clean_a0 {p : Program} {l : Launch} {e : Env} {s : State} {m : MethodId} {args : Array Value} {below : List Frame} {meth : Method} {c : Code} {D : va_G} {dA : Nat → ClassId} {o : Nat → Nat} {A : Nat → Prop} {post : Int32 → CS → Prop} {T0 : Int32 → Int32 → CS → Prop} {T8 : Int32 → Int32 → Int32 → Int32 → Int32 → CS → Prop} {T17 : Int32 → Int32 → Int32 → Int32 → Int32 → Int32 → CS → Prop} {T156 : Int32 → Int32 → Int32 → Int32 → CS → Prop} (C : cC RX0 p m c cX0_clean 9 s args meth (Option.some Jvm.ClassFile.FieldType.boolean) A) (hT0 : ∀ (x1 : Int32) (x2 : Int32) (S : CS), T0 x1 x2 S → ∀ (H : Heap) (locs : List Loc) (ls : Array Slot), lv_has ls 9 [(0, .ref (o 0)), (1, .int x1), (2, .int x2)] → cw D dA o A s S H locs → W p l e (rC_clean) s m args below meth c H locs 0 0 (cQi below args s D dA o A (rC_clean) post) (F0 m 0 ls [])) (hT8 : ∀ (x1 : Int32) (x2 : Int32) (x3 : Int32) (x4 : Int32) (x5 : Int32) (S : CS), T8 x1 x2 x3 x4 x5 S → ∀ (H : Heap) (locs : List Loc) (ls : Array Slot), lv_has ls 9 [(0, .ref (o 0)), (1, .int x1), (2, .int x2), (3, .int x3), (4, .int x4), (5, .int x5)] → cw D dA o A s S H locs → W p l e (rC_clean) s m args below meth c H locs 0 0 (cQi below args s D dA o A (rC_clean) post) (F0 m 8 ls [])) (hT17 : ∀ (x1 : Int32) (x2 : Int32) (x3 : Int32) (x4 : Int32) (x5 : Int32) (x6 : Int32) (S : CS), T17 x1 x2 x3 x4 x5 x6 S → ∀ (H : Heap) (locs : List Loc) (ls : Array Slot), lv_has ls 9 [(0, .ref (o 0)), (1, .int x1), (2, .int x2), (3, .int x3), (4, .int x4), (5, .int x5), (6, .int x6)] → cw D dA o A s S H locs → W p l e (rC_clean) s m args below meth c H locs 0 0 (cQi below args s D dA o A (rC_clean) post) (F0 m 17 ls [])) (hT156 : ∀ (x1 : Int32) (x2 : Int32) (x4 : Int32) (x6 : Int32) (S : CS), T156 x1 x2 x4 x6 S → ∀ (H : Heap) (locs : List Loc) (ls : Array Slot), lv_has ls 9 [(0, .ref (o 0)), (1, .int x1), (2, .int x2), (4, .int x4), (6, .int x6)] → cw D dA o A s S H locs → W p l e (rC_clean) s m args below meth c H locs 0 0 (cQi below args s D dA o A (rC_clean) post) (F0 m 156 ls [])) {x1 : Int32} {x2 : Int32} {S : CS} (h : C_clean_w0 post T0 T8 T17 T156 x1 x2 S) {H : Heap} {locs : List Loc} {ls : Array Slot} (hl : lv_has ls 9 [(0, .ref (o 0)), (1, .int x1), (2, .int x2)]) (w : cw D dA o A s S H locs) : W p l e (rC_clean) s m args below meth c H locs 0 0 (cQi below args s D dA o A (rC_clean) post) (F0 m 0 ls []) := by
  unfold C_clean_w0 at h
  obtain ⟨⟨hx, hb, hml, hown, hts⟩, hr, hlk, hA⟩ := id C
  refine lv_iconst (v := -1) hx hb dX0_clean_0 (by decide) ?_
  refine lv_istore_n (lv' := [(3, .int _), (0, .ref _), (1, .int _), (2, .int _)]) hx hb dX0_clean_1 rfl hl (by decide) rfl (fun ls hl => ?_)
  refine lv_iconst (v := -1) hx hb dX0_clean_2 (by decide) ?_
  refine lv_istore (lv' := [(4, .int _), (3, .int _), (0, .ref _), (1, .int _), (2, .int _)]) hx hb dX0_clean_3 hl (by decide) rfl (fun ls hl => ?_)
  refine lv_iload_n hx hb dX0_clean_5 rfl (lv_at hl 3 rfl) ?_
  refine lv_istore (lv' := [(5, .int _), (4, .int _), (3, .int _), (0, .ref _), (1, .int _), (2, .int _)]) hx hb dX0_clean_6 hl (by decide) rfl (fun ls hl => ?_)
  exact hT8 _ _ _ _ _ _ h _ _ _ (lv_sub hl [3, 4, 5, 2, 1, 0] rfl) w
def C_clean_VC (x1 : Int32) (x2 : Int32) (S : CS) (post : Int32 → CS → Prop) : Prop := ∀ (T0 : Int32 → Int32 → CS → Prop) (T8 : Int32 → Int32 → Int32 → Int32 → Int32 → CS → Prop) (T17 : Int32 → Int32 → Int32 → Int32 → Int32 → Int32 → CS → Prop) (T156 : Int32 → Int32 → Int32 → Int32 → CS → Prop), (∀ (x1 : Int32) (x2 : Int32) (S : CS), C_clean_w0 post T0 T8 T17 T156 x1 x2 S → T0 x1 x2 S) → (∀ (x1 : Int32) (x2 : Int32) (x3 : Int32) (x4 : Int32) (x5 : Int32) (S : CS), C_clean_w8 post T0 T8 T17 T156 x1 x2 x3 x4 x5 S → T8 x1 x2 x3 x4 x5 S) → (∀ (x1 : Int32) (x2 : Int32) (x3 : Int32) (x4 : Int32) (x5 : Int32) (x6 : Int32) (S : CS), C_clean_w17 post T0 T8 T17 T156 x1 x2 x3 x4 x5 x6 S → T17 x1 x2 x3 x4 x5 x6 S) → (∀ (x1 : Int32) (x2 : Int32) (x4 : Int32) (x6 : Int32) (S : CS), C_clean_w156 post T0 T8 T17 T156 x1 x2 x4 x6 S → T156 x1 x2 x4 x6 S) → T0 x1 x2 S
theorem C_clean_ok {x1 : Int32} {x2 : Int32} {S : CS} {post : Int32 → CS → Prop} (h : C_clean_VC x1 x2 S post) : C_clean x1 x2 S post := by
  intro l D dA o sz
  refine cr_start (fun A => va_Qi post (cB D dA o A) A) rfl (Nat.le_of_ble_eq_true rfl) (by decide) ?_
  intro p e s m args below meth c ls A C w hl
  have hl : lv_has ls 9 [(0, .ref (o 0)), (1, .int x1), (2, .int x2)] := hl
  have h := h (fun (x1 : Int32) (x2 : Int32) S => ∀ (H : Heap) (locs : List Loc) (ls : Array Slot), lv_has ls 9 [(0, .ref (o 0)), (1, .int x1), (2, .int x2)] → cw D dA o A s S H locs → W p l e (rC_clean) s m args below meth c H locs 0 0 (cQi below args s D dA o A (rC_clean) post) (F0 m 0 ls [])) (fun (x1 : Int32) (x2 : Int32) (x3 : Int32) (x4 : Int32) (x5 : Int32) S => ∀ (H : Heap) (locs : List Loc) (ls : Array Slot), lv_has ls 9 [(0, .ref (o 0)), (1, .int x1), (2, .int x2), (3, .int x3), (4, .int x4), (5, .int x5)] → cw D dA o A s S H locs → W p l e (rC_clean) s m args below meth c H locs 0 0 (cQi below args s D dA o A (rC_clean) post) (F0 m 8 ls [])) (fun (x1 : Int32) (x2 : Int32) (x3 : Int32) (x4 : Int32) (x5 : Int32) (x6 : Int32) S => ∀ (H : Heap) (locs : List Loc) (ls : Array Slot), lv_has ls 9 [(0, .ref (o 0)), (1, .int x1), (2, .int x2), (3, .int x3), (4, .int x4), (5, .int x5), (6, .int x6)] → cw D dA o A s S H locs → W p l e (rC_clean) s m args below meth c H locs 0 0 (cQi below args s D dA o A (rC_clean) post) (F0 m 17 ls [])) (fun (x1 : Int32) (x2 : Int32) (x4 : Int32) (x6 : Int32) S => ∀ (H : Heap) (locs : List Loc) (ls : Array Slot), lv_has ls 9 [(0, .ref (o 0)), (1, .int x1), (2, .int x2), (4, .int x4), (6, .int x6)] → cw D dA o A s S H locs → W p l e (rC_clean) s m args below meth c H locs 0 0 (cQi below args s D dA o A (rC_clean) post) (F0 m 156 ls [])) (fun _ _ S h H locs ls hl w => C_clean_a0 C (fun _ _ _ h => h) (fun _ _ _ _ _ _ h => h) (fun _ _ _ _ _ _ _ h => h) (fun _ _ _ _ _ h => h) h hl w) (fun _ _ _ _ _ S h H locs ls hl w => C_clean_a8 C (fun _ _ _ h => h) (fun _ _ _ _ _ _ h => h) (fun _ _ _ _ _ _ _ h => h) (fun _ _ _ _ _ h => h) h hl w) (fun _ _ _ _ _ _ S h H locs ls hl w => C_clean_a17 C (fun _ _ _ h => h) (fun _ _ _ _ _ _ h => h) (fun _ _ _ _ _ _ _ h => h) (fun _ _ _ _ _ h => h) h hl w) (fun _ _ _ _ S h H locs ls hl w => C_clean_a156 C (fun _ _ _ h => h) (fun _ _ _ _ _ _ h => h) (fun _ _ _ _ _ _ _ h => h) (fun _ _ _ _ _ h => h) h hl w)
  exact h _ _ _ (lv_sub hl [0, 1, 2] rfl) w

/-! ThirdSheets.diagonal(I)I -/
def C_diagonal_w45 (post : Int32 → CS → Prop) (T2 : Int32 → Int32 → CS → Prop) (x2 : Int32) (S : CS) : Prop :=
  post x2 S
set_option maxHeartbeats 4000000 in
set_option maxRecDepth 100000 in
theorem C_diagonal_a45 {p : Program} {l : Launch} {e : Env} {s : State} {m : MethodId} {args : Array Value} {below : List Frame} {meth : Method} {c : Code} {D : va_G} {dA : Nat → ClassId} {o : Nat → Nat} {A : Nat → Prop} {post : Int32 → CS → Prop} {T2 : Int32 → Int32 → CS → Prop} (C : cC RX0 p m c cX0_diagonal 3 s args meth (Option.some Jvm.ClassFile.FieldType.int) A) (hT2 : ∀ (x1 : Int32) (x2 : Int32) (S : CS), T2 x1 x2 S → ∀ (H : Heap) (locs : List Loc) (ls : Array Slot), lv_has ls 3 [(0, .ref (o 0)), (1, .int x1), (2, .int x2)] → cw D dA o A s S H locs → W p l e (rC_diagonal) s m args below meth c H locs 0 0 (cQi below args s D dA o A (rC_diagonal) post) (F0 m 2 ls [])) {x2 : Int32} {S : CS} (h : C_diagonal_w45 post T2 x2 S) {H : Heap} {locs : List Loc} {ls : Array Slot} (hl : lv_has ls 3 [(0, .ref (o 0)), (2, .int x2)]) (w : cw D dA o A s S H locs) : W p l e (rC_diagonal) s m args below meth c H locs 0 0 (cQi below args s D dA o A (rC_diagonal) post) (F0 m 45 ls []) := by
  unfold C_diagonal_w45 at h
  obtain ⟨⟨hx, hb, hml, hown, hts⟩, hr, hlk, hA⟩ := id C
  refine lv_iload_n hx hb dX0_diagonal_45 rfl (lv_at hl 1 rfl) ?_
  exact cr_iret C w h (Nat.le_of_ble_eq_true rfl) (Nat.le_of_ble_eq_true rfl) dX0_diagonal_46
def C_diagonal_w2 (post : Int32 → CS → Prop) (T2 : Int32 → Int32 → CS → Prop) (x1 : Int32) (x2 : Int32) (S : CS) : Prop :=
  (((6 : Int32) ≤ x2 → C_diagonal_w45 post T2 x2 S) ∧ (¬ (6 : Int32) ≤ x2 → ((x1 ≤ x2 → C_diagonal_w45 post T2 x2 S) ∧ (¬ x1 ≤ x2 → C_clean x2 x1 S (fun (r1 : Int32) (S1 : CS) => ((r1 = 0 → C_diagonal_w45 post T2 x2 S1) ∧ (¬ r1 = 0 → (pk S1 (kA S1 6) 2 ∧ vp_in x2 (kN S1 (kA S1 6)) ∧ ∃ r2 : Nat, kO S1 (kA S1 6) (x2).toNatClampNeg = some r2 ∧ (pk S1 r2 3 ∧ vp_in x2 (kN S1 r2) ∧ (pk S1 (kA S1 7) 3 ∧ vp_in x2 (kN S1 (kA S1 7)) ∧ (fun (S3 : CS) => T2 x1 (x2 + (1 : Int32)) S3) (tR S1 (kA S1 7) (x2).toNatClampNeg (if 0 < (kR S1 r2 (x2).toNatClampNeg) then (kR S1 r2 (x2).toNatClampNeg) else -(kR S1 r2 (x2).toNatClampNeg)))))))))))))
set_option maxHeartbeats 4000000 in
set_option maxRecDepth 100000 in
theorem C_diagonal_a2 {p : Program} {l : Launch} {e : Env} {s : State} {m : MethodId} {args : Array Value} {below : List Frame} {meth : Method} {c : Code} {D : va_G} {dA : Nat → ClassId} {o : Nat → Nat} {A : Nat → Prop} {post : Int32 → CS → Prop} {T2 : Int32 → Int32 → CS → Prop} (C : cC RX0 p m c cX0_diagonal 3 s args meth (Option.some Jvm.ClassFile.FieldType.int) A) (hT2 : ∀ (x1 : Int32) (x2 : Int32) (S : CS), T2 x1 x2 S → ∀ (H : Heap) (locs : List Loc) (ls : Array Slot), lv_has ls 3 [(0, .ref (o 0)), (1, .int x1), (2, .int x2)] → cw D dA o A s S H locs → W p l e (rC_diagonal) s m args below meth c H locs 0 0 (cQi below args s D dA o A (rC_diagonal) post) (F0 m 2 ls [])) {x1 : Int32} {x2 : Int32} {S : CS} (h : C_diagonal_w2 post T2 x1 x2 S) {H : Heap} {locs : List Loc} {ls : Array Slot} (hl : lv_has ls 3 [(0, .ref (o 0)), (1, .int x1), (2, .int x2)]) (w : cw D dA o A s S H locs) : W p l e (rC_diagonal) s m args below meth c H locs 0 0 (cQi below args s D dA o A (rC_diagonal) post) (F0 m 2 ls []) := by
  unfold C_diagonal_w2 at h
  obtain ⟨⟨hx, hb, hml, hown, hts⟩, hr, hlk, hA⟩ := id C
  refine lv_iload_n hx hb dX0_diagonal_2 rfl (lv_at hl 2 rfl) ?_
  refine lv_bipush (v := 6) hx hb dX0_diagonal_3 (by decide) ?_
  obtain ⟨h1, h2⟩ := h
  refine lv_icmp_ge (tgt := 45) hx hb dX0_diagonal_5 (by decide) (fun c1 => ?_) (fun c1 => ?_)
  · have h := h1 c1
    exact C_diagonal_a45 C hT2 h (lv_sub hl [0, 2] rfl) w
  · have h := h2 c1
    refine lv_iload_n hx hb dX0_diagonal_8 rfl (lv_at hl 2 rfl) ?_
    refine lv_iload_n hx hb dX0_diagonal_9 rfl (lv_at hl 1 rfl) ?_
    obtain ⟨h1, h2⟩ := h
    refine lv_icmp_ge (tgt := 45) hx hb dX0_diagonal_10 (by decide) (fun c1 => ?_) (fun c1 => ?_)
    · have h := h1 c1
      exact C_diagonal_a45 C hT2 h (lv_sub hl [0, 2] rfl) w
    · have h := h2 c1
      refine lv_aload_n hx hb dX0_diagonal_13 rfl (lv_at hl 0 rfl) ?_
      refine lv_iload_n hx hb dX0_diagonal_14 rfl (lv_at hl 2 rfl) ?_
      refine lv_iload_n hx hb dX0_diagonal_15 rfl (lv_at hl 1 rfl) ?_
      refine cr_callVI (rest := []) (b := (fun o => o 0)) C w h (recv0 w) (cwV 2 hts (lw_V q419 q421 qs13 q82 q422) rfl rfl rfl C_clean_d ⟨Nat.le_of_ble_eq_true rfl, Nat.le_of_ble_eq_true rfl⟩) rfl hl.1 rfl (Nat.le_of_ble_eq_true rfl) ⟨Nat.le_of_ble_eq_true rfl, Nat.le_of_ble_eq_true rfl⟩ dX0_diagonal_16 (fun r1 S1 H locs h w => ?_)
      obtain ⟨h1, h2⟩ := h
      refine lv_if_eq (tgt := 45) hx hb dX0_diagonal_19 (by decide) (fun c1 => ?_) (fun c1 => ?_)
      · have h := h1 c1
        exact C_diagonal_a45 C hT2 h (lv_sub hl [0, 2] rfl) w
      · have h := h2 c1
        refine lv_aload_n hx hb dX0_diagonal_22 rfl (lv_at hl 0 rfl) ?_
        refine cr_get C w 0 rfl rfl in_X0 7 (by decide) q171 rfl rfl dX0_diagonal_23 ?_
        refine lv_iload_n hx hb dX0_diagonal_26 rfl (lv_at hl 2 rfl) ?_
        refine lv_aload_n hx hb dX0_diagonal_27 rfl (lv_at hl 0 rfl) ?_
        refine cr_get C w 0 rfl rfl in_X0 6 (by decide) q170 rfl rfl dX0_diagonal_28 ?_
        refine lv_iload_n hx hb dX0_diagonal_31 rfl (lv_at hl 2 rfl) ?_
        obtain ⟨hpk, hi, r2, hr2, h⟩ := h
        refine cr_oald C w hpk hi dX0_diagonal_32 ?_
        refine cr_opt hr2 ?_
        refine lv_iload_n hx hb dX0_diagonal_33 rfl (lv_at hl 2 rfl) ?_
        obtain ⟨hpk, hi, h⟩ := h
        refine cr_rald C w hpk hi dX0_diagonal_34 ?_
        refine va_mabs_long hx hb (by rw [hml]; exact hl.1.symm) hown (hts _ q423) (hts _ q424) (hts _ q89) (hts _ q425m) (Nat.le_of_ble_eq_true rfl) (Nat.le_of_ble_eq_true rfl) (Nat.le_of_ble_eq_true rfl) (Nat.le_of_ble_eq_true rfl) dX0_diagonal_35 ?_
        obtain ⟨hpk, hi, h⟩ := h
        refine cr_rast C w hpk hi dX0_diagonal_38 (fun H locs w => ?_)
        refine lv_iinc (v := _ + (1 : Int32)) (lv' := [(2, .int _), (0, .ref _), (1, .int _)]) hx hb dX0_diagonal_39 hl (k := 2) rfl rfl (by decide) rfl (fun ls hl => ?_)
        refine lv_goto (tgt := 2) hx hb dX0_diagonal_42 (by decide) ?_
        exact hT2 _ _ _ h _ _ _ (lv_sub hl [1, 2, 0] rfl) w
def C_diagonal_w0 (post : Int32 → CS → Prop) (T2 : Int32 → Int32 → CS → Prop) (x1 : Int32) (S : CS) : Prop :=
  T2 x1 (0 : Int32) S
set_option maxHeartbeats 4000000 in
set_option maxRecDepth 100000 in
theorem C_diagonal_a0 {p : Program} {l : Launch} {e : Env} {s : State} {m : MethodId} {args : Array Value} {below : List Frame} {meth : Method} {c : Code} {D : va_G} {dA : Nat → ClassId} {o : Nat → Nat} {A : Nat → Prop} {post : Int32 → CS → Prop} {T2 : Int32 → Int32 → CS → Prop} (C : cC RX0 p m c cX0_diagonal 3 s args meth (Option.some Jvm.ClassFile.FieldType.int) A) (hT2 : ∀ (x1 : Int32) (x2 : Int32) (S : CS), T2 x1 x2 S → ∀ (H : Heap) (locs : List Loc) (ls : Array Slot), lv_has ls 3 [(0, .ref (o 0)), (1, .int x1), (2, .int x2)] → cw D dA o A s S H locs → W p l e (rC_diagonal) s m args below meth c H locs 0 0 (cQi below args s D dA o A (rC_diagonal) post) (F0 m 2 ls [])) {x1 : Int32} {S : CS} (h : C_diagonal_w0 post T2 x1 S) {H : Heap} {locs : List Loc} {ls : Array Slot} (hl : lv_has ls 3 [(0, .ref (o 0)), (1, .int x1)]) (w : cw D dA o A s S H locs) : W p l e (rC_diagonal) s m args below meth c H locs 0 0 (cQi below args s D dA o A (rC_diagonal) post) (F0 m 0 ls []) := by
  unfold C_diagonal_w0 at h
  obtain ⟨⟨hx, hb, hml, hown, hts⟩, hr, hlk, hA⟩ := id C
  refine lv_iconst (v := 0) hx hb dX0_diagonal_0 (by decide) ?_
  refine lv_istore_n (lv' := [(2, .int _), (0, .ref _), (1, .int _)]) hx hb dX0_diagonal_1 rfl hl (by decide) rfl (fun ls hl => ?_)
  exact hT2 _ _ _ h _ _ _ (lv_sub hl [1, 2, 0] rfl) w
def C_diagonal_VC (x1 : Int32) (S : CS) (post : Int32 → CS → Prop) : Prop := ∀ (T2 : Int32 → Int32 → CS → Prop), (∀ (x1 : Int32) (x2 : Int32) (S : CS), C_diagonal_w2 post T2 x1 x2 S → T2 x1 x2 S) → C_diagonal_w0 post T2 x1 S
theorem C_diagonal_ok {x1 : Int32} {S : CS} {post : Int32 → CS → Prop} (h : C_diagonal_VC x1 S post) : C_diagonal x1 S post := by
  intro l D dA o sz
  refine cr_start (fun A => va_Qi post (cB D dA o A) A) rfl (Nat.le_of_ble_eq_true rfl) (by decide) ?_
  intro p e s m args below meth c ls A C w hl
  have hl : lv_has ls 3 [(0, .ref (o 0)), (1, .int x1)] := hl
  have h := h (fun (x1 : Int32) (x2 : Int32) S => ∀ (H : Heap) (locs : List Loc) (ls : Array Slot), lv_has ls 3 [(0, .ref (o 0)), (1, .int x1), (2, .int x2)] → cw D dA o A s S H locs → W p l e (rC_diagonal) s m args below meth c H locs 0 0 (cQi below args s D dA o A (rC_diagonal) post) (F0 m 2 ls [])) (fun _ _ S h H locs ls hl w => C_diagonal_a2 C (fun _ _ _ h => h) h hl w)
  exact C_diagonal_a0 C (fun _ _ _ h => h) h (lv_sub hl [0, 1] rfl) w

/-! ThirdSheets.holes(I)I -/
def C_holes_w75 (post : Int32 → CS → Prop) (T52 : Int32 → Int32 → Int32 → CS → Prop) (v0 : Int32) (v1 : Int32) (x2 : Int32) (x3 : Int32) (S : CS) : Prop :=
  ((¬ (v1 - v0) = 0 → T52 x2 (x3 + (1 : Int32)) (v1 - v0) S) ∧ ((v1 - v0) = 0 → (pk S (kA S 7) 3 ∧ vp_in x3 (kN S (kA S 7)) ∧ post ((kR S (kA S 7) (x3).toNatClampNeg)).toInt32 S)))
set_option maxHeartbeats 4000000 in
set_option maxRecDepth 100000 in
theorem C_holes_a75 {p : Program} {l : Launch} {e : Env} {s : State} {m : MethodId} {args : Array Value} {below : List Frame} {meth : Method} {c : Code} {D : va_G} {dA : Nat → ClassId} {o : Nat → Nat} {A : Nat → Prop} {post : Int32 → CS → Prop} {T52 : Int32 → Int32 → Int32 → CS → Prop} (C : cC RX0 p m c cX0_holes 5 s args meth (Option.some Jvm.ClassFile.FieldType.int) A) (hT52 : ∀ (x2 : Int32) (x3 : Int32) (x4 : Int32) (S : CS), T52 x2 x3 x4 S → ∀ (H : Heap) (locs : List Loc) (ls : Array Slot), lv_has ls 5 [(0, .ref (o 0)), (2, .int x2), (3, .int x3), (4, .int x4)] → cw D dA o A s S H locs → W p l e (rC_holes) s m args below meth c H locs 0 0 (cQi below args s D dA o A (rC_holes) post) (F0 m 52 ls [])) {v0 : Int32} {v1 : Int32} {x2 : Int32} {x3 : Int32} {S : CS} (h : C_holes_w75 post T52 v0 v1 x2 x3 S) {H : Heap} {locs : List Loc} {ls : Array Slot} (hl : lv_has ls 5 [(0, .ref (o 0)), (2, .int x2), (3, .int x3)]) (w : cw D dA o A s S H locs) : W p l e (rC_holes) s m args below meth c H locs 0 0 (cQi below args s D dA o A (rC_holes) post) (F0 m 75 ls [.int v0, .int v1]) := by
  unfold C_holes_w75 at h
  obtain ⟨⟨hx, hb, hml, hown, hts⟩, hr, hlk, hA⟩ := id C
  refine lv_isub hx hb dX0_holes_75 ?_
  refine lv_istore (lv' := [(4, .int _), (0, .ref _), (2, .int _), (3, .int _)]) hx hb dX0_holes_76 hl (by decide) rfl (fun ls hl => ?_)
  refine lv_iload hx hb dX0_holes_78 (lv_at hl 0 rfl) ?_
  obtain ⟨h1, h2⟩ := h
  refine lv_if_ne (tgt := 91) hx hb dX0_holes_80 (by decide) (fun c1 => ?_) (fun c1 => ?_)
  · have h := h1 c1
    refine lv_iinc (v := _ + (1 : Int32)) (lv' := [(3, .int _), (4, .int _), (0, .ref _), (2, .int _)]) hx hb dX0_holes_91 hl (k := 3) rfl rfl (by decide) rfl (fun ls hl => ?_)
    refine lv_goto (tgt := 52) hx hb dX0_holes_94 (by decide) ?_
    exact hT52 _ _ _ _ h _ _ _ (lv_sub hl [2, 3, 0, 1] rfl) w
  · have h := h2 c1
    refine lv_aload_n hx hb dX0_holes_83 rfl (lv_at hl 1 rfl) ?_
    refine cr_get C w 0 rfl rfl in_X0 7 (by decide) q171 rfl rfl dX0_holes_84 ?_
    refine lv_iload_n hx hb dX0_holes_87 rfl (lv_at hl 3 rfl) ?_
    obtain ⟨hpk, hi, h⟩ := h
    refine cr_rald C w hpk hi dX0_holes_88 ?_
    refine lv_l2i hx hb dX0_holes_89 rfl ?_
    exact cr_iret C w h (Nat.le_of_ble_eq_true rfl) (Nat.le_of_ble_eq_true rfl) dX0_holes_90
def C_holes_w52 (post : Int32 → CS → Prop) (T52 : Int32 → Int32 → Int32 → CS → Prop) (x2 : Int32) (x3 : Int32) (x4 : Int32) (S : CS) : Prop :=
  ((x2 ≤ x3 → post (-1 : Int32) S) ∧ (¬ x2 ≤ x3 → (pk S (kA S 7) 3 ∧ vp_in x3 (kN S (kA S 7)) ∧ (((kR S (kA S 7) (x3).toNatClampNeg) ≤ (1 : Int64) → C_holes_w75 post T52 (0 : Int32) x4 x2 x3 S) ∧ (¬ (kR S (kA S 7) (x3).toNatClampNeg) ≤ (1 : Int64) → C_holes_w75 post T52 (1 : Int32) x4 x2 x3 S)))))
set_option maxHeartbeats 4000000 in
set_option maxRecDepth 100000 in
theorem C_holes_a52 {p : Program} {l : Launch} {e : Env} {s : State} {m : MethodId} {args : Array Value} {below : List Frame} {meth : Method} {c : Code} {D : va_G} {dA : Nat → ClassId} {o : Nat → Nat} {A : Nat → Prop} {post : Int32 → CS → Prop} {T52 : Int32 → Int32 → Int32 → CS → Prop} (C : cC RX0 p m c cX0_holes 5 s args meth (Option.some Jvm.ClassFile.FieldType.int) A) (hT52 : ∀ (x2 : Int32) (x3 : Int32) (x4 : Int32) (S : CS), T52 x2 x3 x4 S → ∀ (H : Heap) (locs : List Loc) (ls : Array Slot), lv_has ls 5 [(0, .ref (o 0)), (2, .int x2), (3, .int x3), (4, .int x4)] → cw D dA o A s S H locs → W p l e (rC_holes) s m args below meth c H locs 0 0 (cQi below args s D dA o A (rC_holes) post) (F0 m 52 ls [])) {x2 : Int32} {x3 : Int32} {x4 : Int32} {S : CS} (h : C_holes_w52 post T52 x2 x3 x4 S) {H : Heap} {locs : List Loc} {ls : Array Slot} (hl : lv_has ls 5 [(0, .ref (o 0)), (2, .int x2), (3, .int x3), (4, .int x4)]) (w : cw D dA o A s S H locs) : W p l e (rC_holes) s m args below meth c H locs 0 0 (cQi below args s D dA o A (rC_holes) post) (F0 m 52 ls []) := by
  unfold C_holes_w52 at h
  obtain ⟨⟨hx, hb, hml, hown, hts⟩, hr, hlk, hA⟩ := id C
  refine lv_iload_n hx hb dX0_holes_52 rfl (lv_at hl 2 rfl) ?_
  refine lv_iload_n hx hb dX0_holes_53 rfl (lv_at hl 1 rfl) ?_
  obtain ⟨h1, h2⟩ := h
  refine lv_icmp_ge (tgt := 97) hx hb dX0_holes_54 (by decide) (fun c1 => ?_) (fun c1 => ?_)
  · have h := h1 c1
    refine lv_iconst (v := -1) hx hb dX0_holes_97 (by decide) ?_
    exact cr_iret C w h (Nat.le_of_ble_eq_true rfl) (Nat.le_of_ble_eq_true rfl) dX0_holes_98
  · have h := h2 c1
    refine lv_iload hx hb dX0_holes_57 (lv_at hl 3 rfl) ?_
    refine lv_aload_n hx hb dX0_holes_59 rfl (lv_at hl 0 rfl) ?_
    refine cr_get C w 0 rfl rfl in_X0 7 (by decide) q171 rfl rfl dX0_holes_60 ?_
    refine lv_iload_n hx hb dX0_holes_63 rfl (lv_at hl 2 rfl) ?_
    obtain ⟨hpk, hi, h⟩ := h
    refine cr_rald C w hpk hi dX0_holes_64 ?_
    refine lv_lconst (v := 1) hx hb dX0_holes_65 (by decide) ?_
    refine W.lcmp hx hb dX0_holes_66 ?_
    obtain ⟨h1, h2⟩ := h
    refine lv_if_le (tgt := 74) hx hb dX0_holes_67 (by decide) (fun c1 => ?_) (fun c1 => ?_)
    · have h := h1 ((lg_cmp_le _ _).mp c1)
      refine lv_iconst (v := 0) hx hb dX0_holes_74 (by decide) ?_
      exact C_holes_a75 C hT52 h (lv_sub hl [0, 1, 2] rfl) w
    · have h := h2 (mt (lg_cmp_le _ _).mpr c1)
      refine lv_iconst (v := 1) hx hb dX0_holes_70 (by decide) ?_
      refine lv_goto (tgt := 75) hx hb dX0_holes_71 (by decide) ?_
      exact C_holes_a75 C hT52 h (lv_sub hl [0, 1, 2] rfl) w
def C_holes_w0 (post : Int32 → CS → Prop) (T52 : Int32 → Int32 → Int32 → CS → Prop) (x1 : Int32) (S : CS) : Prop :=
  ((0 ≤ x1 → C_hasBent S (fun (r1 : Int32) (S1 : CS) => ((r1 = 0 → C_loops S1 (fun (r2 : Int32) (S2 : CS) => C_diagonal r2 S2 (fun (r3 : Int32) (S3 : CS) => ((¬ x1 = 0 → T52 r3 (0 : Int32) x1 S3) ∧ (x1 = 0 → C_pairs S3 (fun (r4 : Int32) (S4 : CS) => C_sets S4 (fun (r5 : Int32) (S5 : CS) => post (((r4 - (kF S4 1)) + r5) - r3) S5))))))) ∧ (¬ r1 = 0 → post (-3 : Int32) S1)))) ∧ (¬ 0 ≤ x1 → post (-2 : Int32) S))
set_option maxHeartbeats 4000000 in
set_option maxRecDepth 100000 in
theorem C_holes_a0 {p : Program} {l : Launch} {e : Env} {s : State} {m : MethodId} {args : Array Value} {below : List Frame} {meth : Method} {c : Code} {D : va_G} {dA : Nat → ClassId} {o : Nat → Nat} {A : Nat → Prop} {post : Int32 → CS → Prop} {T52 : Int32 → Int32 → Int32 → CS → Prop} (C : cC RX0 p m c cX0_holes 5 s args meth (Option.some Jvm.ClassFile.FieldType.int) A) (hT52 : ∀ (x2 : Int32) (x3 : Int32) (x4 : Int32) (S : CS), T52 x2 x3 x4 S → ∀ (H : Heap) (locs : List Loc) (ls : Array Slot), lv_has ls 5 [(0, .ref (o 0)), (2, .int x2), (3, .int x3), (4, .int x4)] → cw D dA o A s S H locs → W p l e (rC_holes) s m args below meth c H locs 0 0 (cQi below args s D dA o A (rC_holes) post) (F0 m 52 ls [])) {x1 : Int32} {S : CS} (h : C_holes_w0 post T52 x1 S) {H : Heap} {locs : List Loc} {ls : Array Slot} (hl : lv_has ls 5 [(0, .ref (o 0)), (1, .int x1)]) (w : cw D dA o A s S H locs) : W p l e (rC_holes) s m args below meth c H locs 0 0 (cQi below args s D dA o A (rC_holes) post) (F0 m 0 ls []) := by
  unfold C_holes_w0 at h
  obtain ⟨⟨hx, hb, hml, hown, hts⟩, hr, hlk, hA⟩ := id C
  refine lv_iload_n hx hb dX0_holes_0 rfl (lv_at hl 1 rfl) ?_
  obtain ⟨h1, h2⟩ := h
  refine lv_if_ge (tgt := 7) hx hb dX0_holes_1 (by decide) (fun c1 => ?_) (fun c1 => ?_)
  · have h := h1 c1
    refine lv_aload_n hx hb dX0_holes_7 rfl (lv_at hl 0 rfl) ?_
    refine cr_callVI (rest := []) (b := (fun o => o 0)) C w h (recv0 w) (cwV 0 hts (lw_V q386 q388 qs7 q82 q389) rfl rfl rfl C_hasBent_d ⟨Nat.le_of_ble_eq_true rfl, Nat.le_of_ble_eq_true rfl⟩) rfl hl.1 rfl (Nat.le_of_ble_eq_true rfl) ⟨Nat.le_of_ble_eq_true rfl, Nat.le_of_ble_eq_true rfl⟩ dX0_holes_8 (fun r1 S1 H locs h w => ?_)
    obtain ⟨h1, h2⟩ := h
    refine lv_if_eq (tgt := 17) hx hb dX0_holes_11 (by decide) (fun c1 => ?_) (fun c1 => ?_)
    · have h := h1 c1
      refine lv_aload_n hx hb dX0_holes_17 rfl (lv_at hl 0 rfl) ?_
      refine lv_aload_n hx hb dX0_holes_18 rfl (lv_at hl 0 rfl) ?_
      refine cr_callVI (rest := [.ref _]) (b := (fun o => o 0)) C w h (recv0 w) (cwV 0 hts (lw_V q402 q404 qs9 q82 q405) rfl rfl rfl C_loops_d ⟨Nat.le_of_ble_eq_true rfl, Nat.le_of_ble_eq_true rfl⟩) rfl hl.1 rfl (Nat.le_of_ble_eq_true rfl) ⟨Nat.le_of_ble_eq_true rfl, Nat.le_of_ble_eq_true rfl⟩ dX0_holes_19 (fun r2 S2 H locs h w => ?_)
      refine cr_callVI (rest := []) (b := (fun o => o 0)) C w h (recv0 w) (cwV 1 hts (lw_V q415 q417 qs12 q82 q418) rfl rfl rfl C_diagonal_d ⟨Nat.le_of_ble_eq_true rfl, Nat.le_of_ble_eq_true rfl⟩) rfl hl.1 rfl (Nat.le_of_ble_eq_true rfl) ⟨Nat.le_of_ble_eq_true rfl, Nat.le_of_ble_eq_true rfl⟩ dX0_holes_22 (fun r3 S3 H locs h w => ?_)
      refine lv_istore_n (lv' := [(2, .int _), (0, .ref _), (1, .int _)]) hx hb dX0_holes_25 rfl hl (by decide) rfl (fun ls hl => ?_)
      refine lv_iload_n hx hb dX0_holes_26 rfl (lv_at hl 2 rfl) ?_
      obtain ⟨h1, h2⟩ := h
      refine lv_if_ne (tgt := 47) hx hb dX0_holes_27 (by decide) (fun c1 => ?_) (fun c1 => ?_)
      · have h := h1 c1
        refine lv_iconst (v := 0) hx hb dX0_holes_47 (by decide) ?_
        refine lv_istore_n (lv' := [(3, .int _), (2, .int _), (0, .ref _), (1, .int _)]) hx hb dX0_holes_48 rfl hl (by decide) rfl (fun ls hl => ?_)
        refine lv_iload_n hx hb dX0_holes_49 rfl (lv_at hl 3 rfl) ?_
        refine lv_istore (lv' := [(4, .int _), (3, .int _), (2, .int _), (0, .ref _), (1, .int _)]) hx hb dX0_holes_50 hl (by decide) rfl (fun ls hl => ?_)
        exact hT52 _ _ _ _ h _ _ _ (lv_sub hl [3, 2, 1, 0] rfl) w
      · have h := h2 c1
        refine lv_aload_n hx hb dX0_holes_30 rfl (lv_at hl 1 rfl) ?_
        refine cr_callVI (rest := []) (b := (fun o => o 0)) C w h (recv0 w) (cwV 0 hts (lw_V q374 q376 qs4 q82 q377) rfl rfl rfl C_pairs_d ⟨Nat.le_of_ble_eq_true rfl, Nat.le_of_ble_eq_true rfl⟩) rfl hl.1 rfl (Nat.le_of_ble_eq_true rfl) ⟨Nat.le_of_ble_eq_true rfl, Nat.le_of_ble_eq_true rfl⟩ dX0_holes_31 (fun r4 S4 H locs h w => ?_)
        refine lv_aload_n hx hb dX0_holes_34 rfl (lv_at hl 1 rfl) ?_
        refine cr_get C w 0 rfl rfl in_X0 1 (by decide) q164 rfl rfl dX0_holes_35 ?_
        refine lv_isub hx hb dX0_holes_38 ?_
        refine lv_aload_n hx hb dX0_holes_39 rfl (lv_at hl 1 rfl) ?_
        refine cr_callVI (rest := [.int _]) (b := (fun o => o 0)) C w h (recv0 w) (cwV 0 hts (lw_V q390 q392 qs8 q82 q393) rfl rfl rfl C_sets_d ⟨Nat.le_of_ble_eq_true rfl, Nat.le_of_ble_eq_true rfl⟩) rfl hl.1 rfl (Nat.le_of_ble_eq_true rfl) ⟨Nat.le_of_ble_eq_true rfl, Nat.le_of_ble_eq_true rfl⟩ dX0_holes_40 (fun r5 S5 H locs h w => ?_)
        refine lv_iadd hx hb dX0_holes_43 ?_
        refine lv_iload_n hx hb dX0_holes_44 rfl (lv_at hl 0 rfl) ?_
        refine lv_isub hx hb dX0_holes_45 ?_
        exact cr_iret C w h (Nat.le_of_ble_eq_true rfl) (Nat.le_of_ble_eq_true rfl) dX0_holes_46
    · have h := h2 c1
      refine lv_bipush (v := -3) hx hb dX0_holes_14 (by decide) ?_
      exact cr_iret C w h (Nat.le_of_ble_eq_true rfl) (Nat.le_of_ble_eq_true rfl) dX0_holes_16
  · have h := h2 c1
    refine lv_bipush (v := -2) hx hb dX0_holes_4 (by decide) ?_
    exact cr_iret C w h (Nat.le_of_ble_eq_true rfl) (Nat.le_of_ble_eq_true rfl) dX0_holes_6
def C_holes_VC (x1 : Int32) (S : CS) (post : Int32 → CS → Prop) : Prop := ∀ (T52 : Int32 → Int32 → Int32 → CS → Prop), (∀ (x2 : Int32) (x3 : Int32) (x4 : Int32) (S : CS), C_holes_w52 post T52 x2 x3 x4 S → T52 x2 x3 x4 S) → C_holes_w0 post T52 x1 S
theorem C_holes_ok {x1 : Int32} {S : CS} {post : Int32 → CS → Prop} (h : C_holes_VC x1 S post) : C_holes x1 S post := by
  intro l D dA o sz
  refine cr_start (fun A => va_Qi post (cB D dA o A) A) rfl (Nat.le_of_ble_eq_true rfl) (by decide) ?_
  intro p e s m args below meth c ls A C w hl
  have hl : lv_has ls 5 [(0, .ref (o 0)), (1, .int x1)] := hl
  have h := h (fun (x2 : Int32) (x3 : Int32) (x4 : Int32) S => ∀ (H : Heap) (locs : List Loc) (ls : Array Slot), lv_has ls 5 [(0, .ref (o 0)), (2, .int x2), (3, .int x3), (4, .int x4)] → cw D dA o A s S H locs → W p l e (rC_holes) s m args below meth c H locs 0 0 (cQi below args s D dA o A (rC_holes) post) (F0 m 52 ls [])) (fun _ _ _ S h H locs ls hl w => C_holes_a52 C (fun _ _ _ _ h => h) h hl w)
  exact C_holes_a0 C (fun _ _ _ _ h => h) h (lv_sub hl [0, 1] rfl) w
