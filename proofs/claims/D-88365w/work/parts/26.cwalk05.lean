/-! ThirdSheets.count(I)I -/
def C_count_w151 (post : Int32 → CS → Prop) (v0 : Int32) (S : CS) : Prop :=
  post v0 S
set_option maxHeartbeats 4000000 in
set_option maxRecDepth 100000 in
theorem C_count_a151 {p : Program} {l : Launch} {e : Env} {s : State} {m : MethodId} {args : Array Value} {below : List Frame} {meth : Method} {c : Code} {D : va_G} {dA : Nat → ClassId} {o : Nat → Nat} {A : Nat → Prop} {post : Int32 → CS → Prop} (C : cC RX0 p m c cX0_count 2 s args meth (Option.some Jvm.ClassFile.FieldType.int) A) {v0 : Int32} {S : CS} (h : C_count_w151 post v0 S) {H : Heap} {locs : List Loc} {ls : Array Slot} (hl : lv_has ls 2 [(0, .ref (o 0))]) (w : cw D dA o A s S H locs) : W p l e (rC_count) s m args below meth c H locs 2 6 (cQi below args s D dA o A (rC_count) post) (F0 m 151 ls [.int v0]) := by
  unfold C_count_w151 at h
  obtain ⟨⟨hx, hb, hml, hown, hts⟩, hr, hlk, hA⟩ := id C
  exact cr_iret C w h (Nat.le_of_ble_eq_true rfl) (Nat.le_of_ble_eq_true rfl) dX0_count_151
def C_count_w150 (post : Int32 → CS → Prop) (S : CS) : Prop :=
  C_count_w151 post (0 : Int32) S
set_option maxHeartbeats 4000000 in
set_option maxRecDepth 100000 in
theorem C_count_a150 {p : Program} {l : Launch} {e : Env} {s : State} {m : MethodId} {args : Array Value} {below : List Frame} {meth : Method} {c : Code} {D : va_G} {dA : Nat → ClassId} {o : Nat → Nat} {A : Nat → Prop} {post : Int32 → CS → Prop} (C : cC RX0 p m c cX0_count 2 s args meth (Option.some Jvm.ClassFile.FieldType.int) A) {S : CS} (h : C_count_w150 post S) {H : Heap} {locs : List Loc} {ls : Array Slot} (hl : lv_has ls 2 [(0, .ref (o 0))]) (w : cw D dA o A s S H locs) : W p l e (rC_count) s m args below meth c H locs 2 6 (cQi below args s D dA o A (rC_count) post) (F0 m 150 ls []) := by
  unfold C_count_w150 at h
  obtain ⟨⟨hx, hb, hml, hown, hts⟩, hr, hlk, hA⟩ := id C
  refine lv_iconst (v := 0) hx hb dX0_count_150 (by decide) ?_
  exact C_count_a151 C h (lv_sub hl [0] rfl) w
def C_count_w131 (post : Int32 → CS → Prop) (v0 : Int32) (S : CS) : Prop :=
  post v0 S
set_option maxHeartbeats 4000000 in
set_option maxRecDepth 100000 in
theorem C_count_a131 {p : Program} {l : Launch} {e : Env} {s : State} {m : MethodId} {args : Array Value} {below : List Frame} {meth : Method} {c : Code} {D : va_G} {dA : Nat → ClassId} {o : Nat → Nat} {A : Nat → Prop} {post : Int32 → CS → Prop} (C : cC RX0 p m c cX0_count 2 s args meth (Option.some Jvm.ClassFile.FieldType.int) A) {v0 : Int32} {S : CS} (h : C_count_w131 post v0 S) {H : Heap} {locs : List Loc} {ls : Array Slot} (hl : lv_has ls 2 [(0, .ref (o 0))]) (w : cw D dA o A s S H locs) : W p l e (rC_count) s m args below meth c H locs 0 0 (cQi below args s D dA o A (rC_count) post) (F0 m 131 ls [.int v0]) := by
  unfold C_count_w131 at h
  obtain ⟨⟨hx, hb, hml, hown, hts⟩, hr, hlk, hA⟩ := id C
  exact cr_iret C w h (Nat.le_of_ble_eq_true rfl) (Nat.le_of_ble_eq_true rfl) dX0_count_131
def C_count_w0 (post : Int32 → CS → Prop) (x1 : Int32) (S : CS) : Prop :=
  ((x1 = (0 : Int32) → post (kF S 1) S) ∧ (x1 = (1 : Int32) → C_findS2 S (fun (r1 : Int32) (S1 : CS) => post r1 S1)) ∧ (x1 = (2 : Int32) → C_findS3 S (fun (r2 : Int32) (S2 : CS) => post r2 S2)) ∧ (x1 = (3 : Int32) → C_pairs S (fun (r3 : Int32) (S3 : CS) => C_openOnes S3 (fun (r4 : Int32) (S4 : CS) => post (r3 + r4) S4))) ∧ (x1 = (4 : Int32) → C_openOnes S (fun (r5 : Int32) (S5 : CS) => post r5 S5)) ∧ (x1 = (5 : Int32) → C_findS2 S (fun (r6 : Int32) (S6 : CS) => C_findS3 S6 (fun (r7 : Int32) (S7 : CS) => C_pairs S7 (fun (r8 : Int32) (S8 : CS) => C_openOnes S8 (fun (r9 : Int32) (S9 : CS) => post ((((r6 - r7) + r8) + r9) - (kF S9 1)) S9))))) ∧ (x1 = (6 : Int32) → C_isWhole S (fun (r10 : Int32) (S10 : CS) => ((r10 = 0 → C_count_w131 post (0 : Int32) S10) ∧ (¬ r10 = 0 → C_count_w131 post (1 : Int32) S10)))) ∧ (x1 = (7 : Int32) → C_sets S (fun (r11 : Int32) (S11 : CS) => ((r11 < 0 → C_count_w150 post S11) ∧ (¬ r11 < 0 → (((kF S11 5) = 0 → C_count_w150 post S11) ∧ (¬ (kF S11 5) = 0 → C_count_w151 post (1 : Int32) S11)))))) ∧ (x1 = (8 : Int32) → C_sets S (fun (r12 : Int32) (S12 : CS) => post r12 S12)) ∧ (¬ x1 = (0 : Int32) → ¬ x1 = (1 : Int32) → ¬ x1 = (2 : Int32) → ¬ x1 = (3 : Int32) → ¬ x1 = (4 : Int32) → ¬ x1 = (5 : Int32) → ¬ x1 = (6 : Int32) → ¬ x1 = (7 : Int32) → ¬ x1 = (8 : Int32) → post (-2147483648 : Int32) S))
set_option maxHeartbeats 4000000 in
set_option maxRecDepth 100000 in
theorem C_count_a0 {p : Program} {l : Launch} {e : Env} {s : State} {m : MethodId} {args : Array Value} {below : List Frame} {meth : Method} {c : Code} {D : va_G} {dA : Nat → ClassId} {o : Nat → Nat} {A : Nat → Prop} {post : Int32 → CS → Prop} (C : cC RX0 p m c cX0_count 2 s args meth (Option.some Jvm.ClassFile.FieldType.int) A) {x1 : Int32} {S : CS} (h : C_count_w0 post x1 S) {H : Heap} {locs : List Loc} {ls : Array Slot} (hl : lv_has ls 2 [(0, .ref (o 0)), (1, .int x1)]) (w : cw D dA o A s S H locs) : W p l e (rC_count) s m args below meth c H locs 0 0 (cQi below args s D dA o A (rC_count) post) (F0 m 0 ls []) := by
  unfold C_count_w0 at h
  obtain ⟨⟨hx, hb, hml, hown, hts⟩, hr, hlk, hA⟩ := id C
  refine lv_iload_n hx hb dX0_count_0 rfl (lv_at hl 1 rfl) ?_
  obtain ⟨g0, g1, g2, g3, g4, g5, g6, g7, g8, gd⟩ := h
  by_cases e0 : x1 = (0 : Int32)
  · have h := g0 e0
    have hi : (x1).toInt = 0 := by rw [e0]; rfl
    refine lv_tableIn (tgt := 52) hx hb dX0_count_1 (by rw [hi]; decide) (by rw [hi]; decide) (by rw [hi]; rfl) (by decide) ?_
    refine lv_aload_n hx hb dX0_count_52 rfl (lv_at hl 0 rfl) ?_
    refine cr_get C w 0 rfl rfl in_X0 1 (by decide) q164 rfl rfl dX0_count_53 ?_
    exact cr_iret C w h (Nat.le_of_ble_eq_true rfl) (Nat.le_of_ble_eq_true rfl) dX0_count_56
  by_cases e1 : x1 = (1 : Int32)
  · have h := g1 e1
    have hi : (x1).toInt = 1 := by rw [e1]; rfl
    refine lv_tableIn (tgt := 57) hx hb dX0_count_1 (by rw [hi]; decide) (by rw [hi]; decide) (by rw [hi]; rfl) (by decide) ?_
    refine lv_aload_n hx hb dX0_count_57 rfl (lv_at hl 0 rfl) ?_
    refine cr_get C w 0 rfl rfl in_X0 2 (by decide) q166 rfl rfl dX0_count_58 ?_
    refine cr_callUI (owner := RX1) (rest := []) (b := fun o => o 2) C w h (recv2 w) (va_cwU 0 hts (lw_U q289 q290 q292 q293 q83 q294) rfl rfl rfl rfl (by decide +kernel) ⟨Nat.le_of_ble_eq_true rfl, Nat.le_of_ble_eq_true rfl⟩) rfl hl.1 rfl (Nat.le_of_ble_eq_true rfl) ⟨Nat.le_of_ble_eq_true rfl, Nat.le_of_ble_eq_true rfl⟩ dX0_count_61 (fun r1 S1 H locs h w => ?_)
    exact cr_iret C w h (Nat.le_of_ble_eq_true rfl) (Nat.le_of_ble_eq_true rfl) dX0_count_64
  by_cases e2 : x1 = (2 : Int32)
  · have h := g2 e2
    have hi : (x1).toInt = 2 := by rw [e2]; rfl
    refine lv_tableIn (tgt := 65) hx hb dX0_count_1 (by rw [hi]; decide) (by rw [hi]; decide) (by rw [hi]; rfl) (by decide) ?_
    refine lv_aload_n hx hb dX0_count_65 rfl (lv_at hl 0 rfl) ?_
    refine cr_get C w 0 rfl rfl in_X0 3 (by decide) q167 rfl rfl dX0_count_66 ?_
    refine cr_callUI (owner := RX1) (rest := []) (b := fun o => o 3) C w h (recv3 w) (va_cwU 0 hts (lw_U q326 q327 q328 q293 q83 q294) rfl rfl rfl rfl (by decide +kernel) ⟨Nat.le_of_ble_eq_true rfl, Nat.le_of_ble_eq_true rfl⟩) rfl hl.1 rfl (Nat.le_of_ble_eq_true rfl) ⟨Nat.le_of_ble_eq_true rfl, Nat.le_of_ble_eq_true rfl⟩ dX0_count_69 (fun r2 S2 H locs h w => ?_)
    exact cr_iret C w h (Nat.le_of_ble_eq_true rfl) (Nat.le_of_ble_eq_true rfl) dX0_count_72
  by_cases e3 : x1 = (3 : Int32)
  · have h := g3 e3
    have hi : (x1).toInt = 3 := by rw [e3]; rfl
    refine lv_tableIn (tgt := 73) hx hb dX0_count_1 (by rw [hi]; decide) (by rw [hi]; decide) (by rw [hi]; rfl) (by decide) ?_
    refine lv_aload_n hx hb dX0_count_73 rfl (lv_at hl 0 rfl) ?_
    refine cr_callVI (rest := []) (b := (fun o => o 0)) C w h (recv0 w) (cwV 0 hts (lw_V q374 q376 qs4 q82 q377) rfl rfl rfl C_pairs_d ⟨Nat.le_of_ble_eq_true rfl, Nat.le_of_ble_eq_true rfl⟩) rfl hl.1 rfl (Nat.le_of_ble_eq_true rfl) ⟨Nat.le_of_ble_eq_true rfl, Nat.le_of_ble_eq_true rfl⟩ dX0_count_74 (fun r3 S3 H locs h w => ?_)
    refine lv_aload_n hx hb dX0_count_77 rfl (lv_at hl 0 rfl) ?_
    refine cr_callVI (rest := [.int _]) (b := (fun o => o 0)) C w h (recv0 w) (cwV 0 hts (lw_V q378 q380 qs5 q82 q381) rfl rfl rfl C_openOnes_d ⟨Nat.le_of_ble_eq_true rfl, Nat.le_of_ble_eq_true rfl⟩) rfl hl.1 rfl (Nat.le_of_ble_eq_true rfl) ⟨Nat.le_of_ble_eq_true rfl, Nat.le_of_ble_eq_true rfl⟩ dX0_count_78 (fun r4 S4 H locs h w => ?_)
    refine lv_iadd hx hb dX0_count_81 ?_
    exact cr_iret C w h (Nat.le_of_ble_eq_true rfl) (Nat.le_of_ble_eq_true rfl) dX0_count_82
  by_cases e4 : x1 = (4 : Int32)
  · have h := g4 e4
    have hi : (x1).toInt = 4 := by rw [e4]; rfl
    refine lv_tableIn (tgt := 83) hx hb dX0_count_1 (by rw [hi]; decide) (by rw [hi]; decide) (by rw [hi]; rfl) (by decide) ?_
    refine lv_aload_n hx hb dX0_count_83 rfl (lv_at hl 0 rfl) ?_
    refine cr_callVI (rest := []) (b := (fun o => o 0)) C w h (recv0 w) (cwV 0 hts (lw_V q378 q380 qs5 q82 q381) rfl rfl rfl C_openOnes_d ⟨Nat.le_of_ble_eq_true rfl, Nat.le_of_ble_eq_true rfl⟩) rfl hl.1 rfl (Nat.le_of_ble_eq_true rfl) ⟨Nat.le_of_ble_eq_true rfl, Nat.le_of_ble_eq_true rfl⟩ dX0_count_84 (fun r5 S5 H locs h w => ?_)
    exact cr_iret C w h (Nat.le_of_ble_eq_true rfl) (Nat.le_of_ble_eq_true rfl) dX0_count_87
  by_cases e5 : x1 = (5 : Int32)
  · have h := g5 e5
    have hi : (x1).toInt = 5 := by rw [e5]; rfl
    refine lv_tableIn (tgt := 88) hx hb dX0_count_1 (by rw [hi]; decide) (by rw [hi]; decide) (by rw [hi]; rfl) (by decide) ?_
    refine lv_aload_n hx hb dX0_count_88 rfl (lv_at hl 0 rfl) ?_
    refine cr_get C w 0 rfl rfl in_X0 2 (by decide) q166 rfl rfl dX0_count_89 ?_
    refine cr_callUI (owner := RX1) (rest := []) (b := fun o => o 2) C w h (recv2 w) (va_cwU 0 hts (lw_U q289 q290 q292 q293 q83 q294) rfl rfl rfl rfl (by decide +kernel) ⟨Nat.le_of_ble_eq_true rfl, Nat.le_of_ble_eq_true rfl⟩) rfl hl.1 rfl (Nat.le_of_ble_eq_true rfl) ⟨Nat.le_of_ble_eq_true rfl, Nat.le_of_ble_eq_true rfl⟩ dX0_count_92 (fun r6 S6 H locs h w => ?_)
    refine lv_aload_n hx hb dX0_count_95 rfl (lv_at hl 0 rfl) ?_
    refine cr_get C w 0 rfl rfl in_X0 3 (by decide) q167 rfl rfl dX0_count_96 ?_
    refine cr_callUI (owner := RX1) (rest := [.int _]) (b := fun o => o 3) C w h (recv3 w) (va_cwU 0 hts (lw_U q326 q327 q328 q293 q83 q294) rfl rfl rfl rfl (by decide +kernel) ⟨Nat.le_of_ble_eq_true rfl, Nat.le_of_ble_eq_true rfl⟩) rfl hl.1 rfl (Nat.le_of_ble_eq_true rfl) ⟨Nat.le_of_ble_eq_true rfl, Nat.le_of_ble_eq_true rfl⟩ dX0_count_99 (fun r7 S7 H locs h w => ?_)
    refine lv_isub hx hb dX0_count_102 ?_
    refine lv_aload_n hx hb dX0_count_103 rfl (lv_at hl 0 rfl) ?_
    refine cr_callVI (rest := [.int _]) (b := (fun o => o 0)) C w h (recv0 w) (cwV 0 hts (lw_V q374 q376 qs4 q82 q377) rfl rfl rfl C_pairs_d ⟨Nat.le_of_ble_eq_true rfl, Nat.le_of_ble_eq_true rfl⟩) rfl hl.1 rfl (Nat.le_of_ble_eq_true rfl) ⟨Nat.le_of_ble_eq_true rfl, Nat.le_of_ble_eq_true rfl⟩ dX0_count_104 (fun r8 S8 H locs h w => ?_)
    refine lv_iadd hx hb dX0_count_107 ?_
    refine lv_aload_n hx hb dX0_count_108 rfl (lv_at hl 0 rfl) ?_
    refine cr_callVI (rest := [.int _]) (b := (fun o => o 0)) C w h (recv0 w) (cwV 0 hts (lw_V q378 q380 qs5 q82 q381) rfl rfl rfl C_openOnes_d ⟨Nat.le_of_ble_eq_true rfl, Nat.le_of_ble_eq_true rfl⟩) rfl hl.1 rfl (Nat.le_of_ble_eq_true rfl) ⟨Nat.le_of_ble_eq_true rfl, Nat.le_of_ble_eq_true rfl⟩ dX0_count_109 (fun r9 S9 H locs h w => ?_)
    refine lv_iadd hx hb dX0_count_112 ?_
    refine lv_aload_n hx hb dX0_count_113 rfl (lv_at hl 0 rfl) ?_
    refine cr_get C w 0 rfl rfl in_X0 1 (by decide) q164 rfl rfl dX0_count_114 ?_
    refine lv_isub hx hb dX0_count_117 ?_
    exact cr_iret C w h (Nat.le_of_ble_eq_true rfl) (Nat.le_of_ble_eq_true rfl) dX0_count_118
  by_cases e6 : x1 = (6 : Int32)
  · have h := g6 e6
    have hi : (x1).toInt = 6 := by rw [e6]; rfl
    refine lv_tableIn (tgt := 119) hx hb dX0_count_1 (by rw [hi]; decide) (by rw [hi]; decide) (by rw [hi]; rfl) (by decide) ?_
    refine lv_aload_n hx hb dX0_count_119 rfl (lv_at hl 0 rfl) ?_
    refine cr_callVI (rest := []) (b := (fun o => o 0)) C w h (recv0 w) (cwV 0 hts (lw_V q382 q384 qs6 q82 q385) rfl rfl rfl C_isWhole_d ⟨Nat.le_of_ble_eq_true rfl, Nat.le_of_ble_eq_true rfl⟩) rfl hl.1 rfl (Nat.le_of_ble_eq_true rfl) ⟨Nat.le_of_ble_eq_true rfl, Nat.le_of_ble_eq_true rfl⟩ dX0_count_120 (fun r10 S10 H locs h w => ?_)
    obtain ⟨h1, h2⟩ := h
    refine lv_if_eq (tgt := 130) hx hb dX0_count_123 (by decide) (fun c1 => ?_) (fun c1 => ?_)
    · have h := h1 c1
      refine lv_iconst (v := 0) hx hb dX0_count_130 (by decide) ?_
      exact C_count_a131 C h (lv_sub hl [0] rfl) w
    · have h := h2 c1
      refine lv_iconst (v := 1) hx hb dX0_count_126 (by decide) ?_
      refine lv_goto (tgt := 131) hx hb dX0_count_127 (by decide) ?_
      exact C_count_a131 C h (lv_sub hl [0] rfl) w
  by_cases e7 : x1 = (7 : Int32)
  · have h := g7 e7
    have hi : (x1).toInt = 7 := by rw [e7]; rfl
    refine lv_tableIn (tgt := 132) hx hb dX0_count_1 (by rw [hi]; decide) (by rw [hi]; decide) (by rw [hi]; rfl) (by decide) ?_
    refine lv_aload_n hx hb dX0_count_132 rfl (lv_at hl 0 rfl) ?_
    refine cr_callVI (rest := []) (b := (fun o => o 0)) C w h (recv0 w) (cwV 0 hts (lw_V q390 q392 qs8 q82 q393) rfl rfl rfl C_sets_d ⟨Nat.le_of_ble_eq_true rfl, Nat.le_of_ble_eq_true rfl⟩) rfl hl.1 rfl (Nat.le_of_ble_eq_true rfl) ⟨Nat.le_of_ble_eq_true rfl, Nat.le_of_ble_eq_true rfl⟩ dX0_count_133 (fun r11 S11 H locs h w => ?_)
    obtain ⟨h1, h2⟩ := h
    refine lv_if_lt (tgt := 150) hx hb dX0_count_136 (by decide) (fun c1 => ?_) (fun c1 => ?_)
    · have h := h1 c1
      exact C_count_a150 C h (lv_sub hl [0] rfl) w
    · have h := h2 c1
      refine lv_aload_n hx hb dX0_count_139 rfl (lv_at hl 0 rfl) ?_
      refine cr_get C w 0 rfl rfl in_X0 5 (by decide) q169 rfl rfl dX0_count_140 ?_
      obtain ⟨h1, h2⟩ := h
      refine lv_if_eq (tgt := 150) hx hb dX0_count_143 (by decide) (fun c1 => ?_) (fun c1 => ?_)
      · have h := h1 c1
        exact C_count_a150 C h (lv_sub hl [0] rfl) w
      · have h := h2 c1
        refine lv_iconst (v := 1) hx hb dX0_count_146 (by decide) ?_
        refine lv_goto (tgt := 151) hx hb dX0_count_147 (by decide) ?_
        exact C_count_a151 C h (lv_sub hl [0] rfl) w
  by_cases e8 : x1 = (8 : Int32)
  · have h := g8 e8
    have hi : (x1).toInt = 8 := by rw [e8]; rfl
    refine lv_tableIn (tgt := 152) hx hb dX0_count_1 (by rw [hi]; decide) (by rw [hi]; decide) (by rw [hi]; rfl) (by decide) ?_
    refine lv_aload_n hx hb dX0_count_152 rfl (lv_at hl 0 rfl) ?_
    refine cr_callVI (rest := []) (b := (fun o => o 0)) C w h (recv0 w) (cwV 0 hts (lw_V q390 q392 qs8 q82 q393) rfl rfl rfl C_sets_d ⟨Nat.le_of_ble_eq_true rfl, Nat.le_of_ble_eq_true rfl⟩) rfl hl.1 rfl (Nat.le_of_ble_eq_true rfl) ⟨Nat.le_of_ble_eq_true rfl, Nat.le_of_ble_eq_true rfl⟩ dX0_count_153 (fun r12 S12 H locs h w => ?_)
    exact cr_iret C w h (Nat.le_of_ble_eq_true rfl) (Nat.le_of_ble_eq_true rfl) dX0_count_156
  have h := gd e0 e1 e2 e3 e4 e5 e6 e7 e8
  have n0 : ¬ (x1).toInt = 0 := lv_neT e0 rfl
  have n1 : ¬ (x1).toInt = 1 := lv_neT e1 rfl
  have n2 : ¬ (x1).toInt = 2 := lv_neT e2 rfl
  have n3 : ¬ (x1).toInt = 3 := lv_neT e3 rfl
  have n4 : ¬ (x1).toInt = 4 := lv_neT e4 rfl
  have n5 : ¬ (x1).toInt = 5 := lv_neT e5 rfl
  have n6 : ¬ (x1).toInt = 6 := lv_neT e6 rfl
  have n7 : ¬ (x1).toInt = 7 := lv_neT e7 rfl
  have n8 : ¬ (x1).toInt = 8 := lv_neT e8 rfl
  refine lv_tableOut (tgt := 157) hx hb dX0_count_1 (by omega) (by decide) ?_
  refine lv_ldc hx hb hown (hts _ q362) dX0_count_157 ?_
  exact cr_iret C w h (Nat.le_of_ble_eq_true rfl) (Nat.le_of_ble_eq_true rfl) dX0_count_159
def C_count_VC (x1 : Int32) (S : CS) (post : Int32 → CS → Prop) : Prop := C_count_w0 post x1 S
theorem C_count_ok {x1 : Int32} {S : CS} {post : Int32 → CS → Prop} (h : C_count_VC x1 S post) : C_count x1 S post := by
  intro l D dA o sz
  refine cr_start (fun A => va_Qi post (cB D dA o A) A) rfl (Nat.le_of_ble_eq_true rfl) (by decide) ?_
  intro p e s m args below meth c ls A C w hl
  have hl : lv_has ls 2 [(0, .ref (o 0)), (1, .int x1)] := hl
  exact C_count_a0 C h (lv_sub hl [0, 1] rfl) w

/-! ThirdSheets.pairOf(II)I -/
def C_pairOf_w119 (post : Int32 → CS → Prop) (T5 : Int32 → Int32 → Int32 → Int32 → CS → Prop) (v0 : Int32) (v1 : Int32) (x1 : Int32) (x2 : Int32) (x4 : Int32) (S : CS) : Prop :=
  T5 x1 x2 (v1 + v0) (x4 + (1 : Int32)) S
set_option maxHeartbeats 4000000 in
set_option maxRecDepth 100000 in
theorem C_pairOf_a119 {p : Program} {l : Launch} {e : Env} {s : State} {m : MethodId} {args : Array Value} {below : List Frame} {meth : Method} {c : Code} {D : va_G} {dA : Nat → ClassId} {o : Nat → Nat} {A : Nat → Prop} {post : Int32 → CS → Prop} {T5 : Int32 → Int32 → Int32 → Int32 → CS → Prop} (C : cC RX0 p m c cX0_pairOf 7 s args meth (Option.some Jvm.ClassFile.FieldType.int) A) (hT5 : ∀ (x1 : Int32) (x2 : Int32) (x3 : Int32) (x4 : Int32) (S : CS), T5 x1 x2 x3 x4 S → ∀ (H : Heap) (locs : List Loc) (ls : Array Slot), lv_has ls 7 [(0, .ref (o 0)), (1, .int x1), (2, .int x2), (3, .int x3), (4, .int x4)] → cw D dA o A s S H locs → W p l e (rC_pairOf) s m args below meth c H locs 0 0 (cQi below args s D dA o A (rC_pairOf) post) (F0 m 5 ls [])) {v0 : Int32} {v1 : Int32} {x1 : Int32} {x2 : Int32} {x4 : Int32} {S : CS} (h : C_pairOf_w119 post T5 v0 v1 x1 x2 x4 S) {H : Heap} {locs : List Loc} {ls : Array Slot} (hl : lv_has ls 7 [(0, .ref (o 0)), (1, .int x1), (2, .int x2), (4, .int x4)]) (w : cw D dA o A s S H locs) : W p l e (rC_pairOf) s m args below meth c H locs 0 0 (cQi below args s D dA o A (rC_pairOf) post) (F0 m 119 ls [.int v0, .int v1]) := by
  unfold C_pairOf_w119 at h
  obtain ⟨⟨hx, hb, hml, hown, hts⟩, hr, hlk, hA⟩ := id C
  refine lv_iadd hx hb dX0_pairOf_119 ?_
  refine lv_istore_n (lv' := [(3, .int _), (0, .ref _), (1, .int _), (2, .int _), (4, .int _)]) hx hb dX0_pairOf_120 rfl hl (by decide) rfl (fun ls hl => ?_)
  refine lv_iinc (v := _ + (1 : Int32)) (lv' := [(4, .int _), (3, .int _), (0, .ref _), (1, .int _), (2, .int _)]) hx hb dX0_pairOf_121 hl (k := 4) rfl rfl (by decide) rfl (fun ls hl => ?_)
  refine lv_goto (tgt := 5) hx hb dX0_pairOf_124 (by decide) ?_
  exact hT5 _ _ _ _ _ h _ _ _ (lv_sub hl [2, 3, 4, 1, 0] rfl) w
def C_pairOf_w108 (post : Int32 → CS → Prop) (T5 : Int32 → Int32 → Int32 → Int32 → CS → Prop) (x1 : Int32) (x2 : Int32) (x3 : Int32) (x4 : Int32) (x6 : Int32) (S : CS) : Prop :=
  ((x6 = 0 → C_pairOf_w119 post T5 (0 : Int32) x3 x1 x2 x4 S) ∧ (¬ x6 = 0 → C_pairOf_w119 post T5 (1 : Int32) x3 x1 x2 x4 S))
set_option maxHeartbeats 4000000 in
set_option maxRecDepth 100000 in
theorem C_pairOf_a108 {p : Program} {l : Launch} {e : Env} {s : State} {m : MethodId} {args : Array Value} {below : List Frame} {meth : Method} {c : Code} {D : va_G} {dA : Nat → ClassId} {o : Nat → Nat} {A : Nat → Prop} {post : Int32 → CS → Prop} {T5 : Int32 → Int32 → Int32 → Int32 → CS → Prop} (C : cC RX0 p m c cX0_pairOf 7 s args meth (Option.some Jvm.ClassFile.FieldType.int) A) (hT5 : ∀ (x1 : Int32) (x2 : Int32) (x3 : Int32) (x4 : Int32) (S : CS), T5 x1 x2 x3 x4 S → ∀ (H : Heap) (locs : List Loc) (ls : Array Slot), lv_has ls 7 [(0, .ref (o 0)), (1, .int x1), (2, .int x2), (3, .int x3), (4, .int x4)] → cw D dA o A s S H locs → W p l e (rC_pairOf) s m args below meth c H locs 0 0 (cQi below args s D dA o A (rC_pairOf) post) (F0 m 5 ls [])) {x1 : Int32} {x2 : Int32} {x3 : Int32} {x4 : Int32} {x6 : Int32} {S : CS} (h : C_pairOf_w108 post T5 x1 x2 x3 x4 x6 S) {H : Heap} {locs : List Loc} {ls : Array Slot} (hl : lv_has ls 7 [(0, .ref (o 0)), (1, .int x1), (2, .int x2), (3, .int x3), (4, .int x4), (6, .int x6)]) (w : cw D dA o A s S H locs) : W p l e (rC_pairOf) s m args below meth c H locs 0 0 (cQi below args s D dA o A (rC_pairOf) post) (F0 m 108 ls []) := by
  unfold C_pairOf_w108 at h
  obtain ⟨⟨hx, hb, hml, hown, hts⟩, hr, hlk, hA⟩ := id C
  refine lv_iload_n hx hb dX0_pairOf_108 rfl (lv_at hl 3 rfl) ?_
  refine lv_iload hx hb dX0_pairOf_109 (lv_at hl 5 rfl) ?_
  obtain ⟨h1, h2⟩ := h
  refine lv_if_eq (tgt := 118) hx hb dX0_pairOf_111 (by decide) (fun c1 => ?_) (fun c1 => ?_)
  · have h := h1 c1
    refine lv_iconst (v := 0) hx hb dX0_pairOf_118 (by decide) ?_
    exact C_pairOf_a119 C hT5 h (lv_sub hl [0, 1, 2, 4] rfl) w
  · have h := h2 c1
    refine lv_iconst (v := 1) hx hb dX0_pairOf_114 (by decide) ?_
    refine lv_goto (tgt := 119) hx hb dX0_pairOf_115 (by decide) ?_
    exact C_pairOf_a119 C hT5 h (lv_sub hl [0, 1, 2, 4] rfl) w
def C_pairOf_w106 (post : Int32 → CS → Prop) (T5 : Int32 → Int32 → Int32 → Int32 → CS → Prop) (x3 : Int32) (S : CS) : Prop :=
  post x3 S
set_option maxHeartbeats 4000000 in
set_option maxRecDepth 100000 in
theorem C_pairOf_a106 {p : Program} {l : Launch} {e : Env} {s : State} {m : MethodId} {args : Array Value} {below : List Frame} {meth : Method} {c : Code} {D : va_G} {dA : Nat → ClassId} {o : Nat → Nat} {A : Nat → Prop} {post : Int32 → CS → Prop} {T5 : Int32 → Int32 → Int32 → Int32 → CS → Prop} (C : cC RX0 p m c cX0_pairOf 7 s args meth (Option.some Jvm.ClassFile.FieldType.int) A) (hT5 : ∀ (x1 : Int32) (x2 : Int32) (x3 : Int32) (x4 : Int32) (S : CS), T5 x1 x2 x3 x4 S → ∀ (H : Heap) (locs : List Loc) (ls : Array Slot), lv_has ls 7 [(0, .ref (o 0)), (1, .int x1), (2, .int x2), (3, .int x3), (4, .int x4)] → cw D dA o A s S H locs → W p l e (rC_pairOf) s m args below meth c H locs 0 0 (cQi below args s D dA o A (rC_pairOf) post) (F0 m 5 ls [])) {x3 : Int32} {S : CS} (h : C_pairOf_w106 post T5 x3 S) {H : Heap} {locs : List Loc} {ls : Array Slot} (hl : lv_has ls 7 [(0, .ref (o 0)), (3, .int x3)]) (w : cw D dA o A s S H locs) : W p l e (rC_pairOf) s m args below meth c H locs 0 0 (cQi below args s D dA o A (rC_pairOf) post) (F0 m 106 ls []) := by
  unfold C_pairOf_w106 at h
  obtain ⟨⟨hx, hb, hml, hown, hts⟩, hr, hlk, hA⟩ := id C
  refine lv_iload_n hx hb dX0_pairOf_106 rfl (lv_at hl 1 rfl) ?_
  exact cr_iret C w h (Nat.le_of_ble_eq_true rfl) (Nat.le_of_ble_eq_true rfl) dX0_pairOf_107
def C_pairOf_w71 (post : Int32 → CS → Prop) (T5 : Int32 → Int32 → Int32 → Int32 → CS → Prop) (v0 : Int32) (x1 : Int32) (x2 : Int32) (x3 : Int32) (x4 : Int32) (y5 : Option Nat) (S : CS) : Prop :=
  ((v0 = 0 → C_pairOf_w108 post T5 x1 x2 x3 x4 v0 S) ∧ (¬ v0 = 0 → ((x4 = ((x1 * (4 : Int32)) + x2) → C_pairOf_w106 post T5 x3 S) ∧ (¬ x4 = ((x1 * (4 : Int32)) + x2) → (∃ g1 : Nat, y5 = some g1 ∧ pk S g1 0 ∧ ((¬ (kG S g1).1 = x1 → C_pairOf_w108 post T5 x1 x2 x3 x4 v0 S) ∧ ((kG S g1).1 = x1 → (∃ g2 : Nat, y5 = some g2 ∧ pk S g2 0 ∧ ((¬ (kG S g2).2.1 = x2 → C_pairOf_w108 post T5 x1 x2 x3 x4 v0 S) ∧ ((kG S g2).2.1 = x2 → C_pairOf_w106 post T5 x3 S))))))))))
set_option maxHeartbeats 4000000 in
set_option maxRecDepth 100000 in
theorem C_pairOf_a71 {p : Program} {l : Launch} {e : Env} {s : State} {m : MethodId} {args : Array Value} {below : List Frame} {meth : Method} {c : Code} {D : va_G} {dA : Nat → ClassId} {o : Nat → Nat} {A : Nat → Prop} {post : Int32 → CS → Prop} {T5 : Int32 → Int32 → Int32 → Int32 → CS → Prop} (C : cC RX0 p m c cX0_pairOf 7 s args meth (Option.some Jvm.ClassFile.FieldType.int) A) (hT5 : ∀ (x1 : Int32) (x2 : Int32) (x3 : Int32) (x4 : Int32) (S : CS), T5 x1 x2 x3 x4 S → ∀ (H : Heap) (locs : List Loc) (ls : Array Slot), lv_has ls 7 [(0, .ref (o 0)), (1, .int x1), (2, .int x2), (3, .int x3), (4, .int x4)] → cw D dA o A s S H locs → W p l e (rC_pairOf) s m args below meth c H locs 0 0 (cQi below args s D dA o A (rC_pairOf) post) (F0 m 5 ls [])) {v0 : Int32} {x1 : Int32} {x2 : Int32} {x3 : Int32} {x4 : Int32} {y5 : Option Nat} {S : CS} (h : C_pairOf_w71 post T5 v0 x1 x2 x3 x4 y5 S) {H : Heap} {locs : List Loc} {ls : Array Slot} (hl : lv_has ls 7 [(0, .ref (o 0)), (1, .int x1), (2, .int x2), (3, .int x3), (4, .int x4), (5, va_rf y5)]) (w : cw D dA o A s S H locs) : W p l e (rC_pairOf) s m args below meth c H locs 0 0 (cQi below args s D dA o A (rC_pairOf) post) (F0 m 71 ls [.int v0]) := by
  unfold C_pairOf_w71 at h
  obtain ⟨⟨hx, hb, hml, hown, hts⟩, hr, hlk, hA⟩ := id C
  refine lv_istore (lv' := [(6, .int _), (0, .ref _), (1, .int _), (2, .int _), (3, .int _), (4, .int _), (5, va_rf _)]) hx hb dX0_pairOf_71 hl (by decide) ((congrArg (List.cons _) (lv_filtC (by intro q hq hq1; simp only [List.mem_cons, List.not_mem_nil, or_false] at hq; rcases hq with rfl | rfl | rfl | rfl | rfl | rfl <;> first | exact va_rf_cat _ | (exfalso; simp at hq1)))).trans rfl) (fun ls hl => ?_)
  refine lv_iload hx hb dX0_pairOf_73 (lv_at hl 0 rfl) ?_
  obtain ⟨h1, h2⟩ := h
  refine lv_if_eq (tgt := 108) hx hb dX0_pairOf_75 (by decide) (fun c1 => ?_) (fun c1 => ?_)
  · have h := h1 c1
    exact C_pairOf_a108 C hT5 h (lv_sub hl [1, 2, 3, 4, 5, 0] rfl) w
  · have h := h2 c1
    refine lv_iload hx hb dX0_pairOf_78 (lv_at hl 5 rfl) ?_
    refine lv_iload_n hx hb dX0_pairOf_80 rfl (lv_at hl 2 rfl) ?_
    refine lv_iconst (v := 4) hx hb dX0_pairOf_81 (by decide) ?_
    refine lv_imul hx hb dX0_pairOf_82 ?_
    refine lv_iload_n hx hb dX0_pairOf_83 rfl (lv_at hl 3 rfl) ?_
    refine lv_iadd hx hb dX0_pairOf_84 ?_
    obtain ⟨h1, h2⟩ := h
    refine lv_icmp_eq (tgt := 106) hx hb dX0_pairOf_85 (by decide) (fun c1 => ?_) (fun c1 => ?_)
    · have h := h1 c1
      exact C_pairOf_a106 C hT5 h (lv_sub hl [1, 4] rfl) w
    · have h := h2 c1
      refine lv_aloadQ hx hb dX0_pairOf_88 (lv_at hl 6 rfl) ?_
      obtain ⟨g1, hg, hpk, h⟩ := h
      refine cr_opt hg ?_
      refine cr_getGp C w hpk nwF_RX0_116 dX0_pairOf_90 ?_
      refine lv_iload_n hx hb dX0_pairOf_93 rfl (lv_at hl 2 rfl) ?_
      obtain ⟨h1, h2⟩ := h
      refine lv_icmp_ne (tgt := 108) hx hb dX0_pairOf_94 (by decide) (fun c1 => ?_) (fun c1 => ?_)
      · have h := h1 c1
        exact C_pairOf_a108 C hT5 h (lv_sub hl [1, 2, 3, 4, 5, 0] rfl) w
      · have h := h2 c1
        refine lv_aloadQ hx hb dX0_pairOf_97 (lv_at hl 6 rfl) ?_
        obtain ⟨g2, hg, hpk, h⟩ := h
        refine cr_opt hg ?_
        refine cr_getGs C w hpk nwF_RX0_119 dX0_pairOf_99 ?_
        refine lv_iload_n hx hb dX0_pairOf_102 rfl (lv_at hl 3 rfl) ?_
        obtain ⟨h1, h2⟩ := h
        refine lv_icmp_ne (tgt := 108) hx hb dX0_pairOf_103 (by decide) (fun c1 => ?_) (fun c1 => ?_)
        · have h := h1 c1
          exact C_pairOf_a108 C hT5 h (lv_sub hl [1, 2, 3, 4, 5, 0] rfl) w
        · have h := h2 c1
          exact C_pairOf_a106 C hT5 h (lv_sub hl [1, 4] rfl) w
def C_pairOf_w70 (post : Int32 → CS → Prop) (T5 : Int32 → Int32 → Int32 → Int32 → CS → Prop) (x1 : Int32) (x2 : Int32) (x3 : Int32) (x4 : Int32) (y5 : Option Nat) (S : CS) : Prop :=
  C_pairOf_w71 post T5 (0 : Int32) x1 x2 x3 x4 y5 S
set_option maxHeartbeats 4000000 in
set_option maxRecDepth 100000 in
theorem C_pairOf_a70 {p : Program} {l : Launch} {e : Env} {s : State} {m : MethodId} {args : Array Value} {below : List Frame} {meth : Method} {c : Code} {D : va_G} {dA : Nat → ClassId} {o : Nat → Nat} {A : Nat → Prop} {post : Int32 → CS → Prop} {T5 : Int32 → Int32 → Int32 → Int32 → CS → Prop} (C : cC RX0 p m c cX0_pairOf 7 s args meth (Option.some Jvm.ClassFile.FieldType.int) A) (hT5 : ∀ (x1 : Int32) (x2 : Int32) (x3 : Int32) (x4 : Int32) (S : CS), T5 x1 x2 x3 x4 S → ∀ (H : Heap) (locs : List Loc) (ls : Array Slot), lv_has ls 7 [(0, .ref (o 0)), (1, .int x1), (2, .int x2), (3, .int x3), (4, .int x4)] → cw D dA o A s S H locs → W p l e (rC_pairOf) s m args below meth c H locs 0 0 (cQi below args s D dA o A (rC_pairOf) post) (F0 m 5 ls [])) {x1 : Int32} {x2 : Int32} {x3 : Int32} {x4 : Int32} {y5 : Option Nat} {S : CS} (h : C_pairOf_w70 post T5 x1 x2 x3 x4 y5 S) {H : Heap} {locs : List Loc} {ls : Array Slot} (hl : lv_has ls 7 [(0, .ref (o 0)), (1, .int x1), (2, .int x2), (3, .int x3), (4, .int x4), (5, va_rf y5)]) (w : cw D dA o A s S H locs) : W p l e (rC_pairOf) s m args below meth c H locs 0 0 (cQi below args s D dA o A (rC_pairOf) post) (F0 m 70 ls []) := by
  unfold C_pairOf_w70 at h
  obtain ⟨⟨hx, hb, hml, hown, hts⟩, hr, hlk, hA⟩ := id C
  refine lv_iconst (v := 0) hx hb dX0_pairOf_70 (by decide) ?_
  exact C_pairOf_a71 C hT5 h (lv_sub hl [0, 1, 2, 3, 4, 5] rfl) w
def C_pairOf_w41 (post : Int32 → CS → Prop) (T5 : Int32 → Int32 → Int32 → Int32 → CS → Prop) (v0 : Option Nat) (x1 : Int32) (x2 : Int32) (x3 : Int32) (x4 : Int32) (S : CS) : Prop :=
  ((v0 = none → C_pairOf_w70 post T5 x1 x2 x3 x4 v0 S) ∧ (∀ g1 : Nat, v0 = some g1 → (pk S g1 0 ∧ (pk S g1 0 ∧ (((((kG S g1).1 * (4 : Int32)) + (kG S g1).2.1) ≤ x4 → C_pairOf_w70 post T5 x1 x2 x3 x4 (some g1) S) ∧ (¬ (((kG S g1).1 * (4 : Int32)) + (kG S g1).2.1) ≤ x4 → C_pairOf_w71 post T5 (1 : Int32) x1 x2 x3 x4 (some g1) S))))))
set_option maxHeartbeats 4000000 in
set_option maxRecDepth 100000 in
theorem C_pairOf_a41 {p : Program} {l : Launch} {e : Env} {s : State} {m : MethodId} {args : Array Value} {below : List Frame} {meth : Method} {c : Code} {D : va_G} {dA : Nat → ClassId} {o : Nat → Nat} {A : Nat → Prop} {post : Int32 → CS → Prop} {T5 : Int32 → Int32 → Int32 → Int32 → CS → Prop} (C : cC RX0 p m c cX0_pairOf 7 s args meth (Option.some Jvm.ClassFile.FieldType.int) A) (hT5 : ∀ (x1 : Int32) (x2 : Int32) (x3 : Int32) (x4 : Int32) (S : CS), T5 x1 x2 x3 x4 S → ∀ (H : Heap) (locs : List Loc) (ls : Array Slot), lv_has ls 7 [(0, .ref (o 0)), (1, .int x1), (2, .int x2), (3, .int x3), (4, .int x4)] → cw D dA o A s S H locs → W p l e (rC_pairOf) s m args below meth c H locs 0 0 (cQi below args s D dA o A (rC_pairOf) post) (F0 m 5 ls [])) {v0 : Option Nat} {x1 : Int32} {x2 : Int32} {x3 : Int32} {x4 : Int32} {S : CS} (h : C_pairOf_w41 post T5 v0 x1 x2 x3 x4 S) {H : Heap} {locs : List Loc} {ls : Array Slot} (hl : lv_has ls 7 [(0, .ref (o 0)), (1, .int x1), (2, .int x2), (3, .int x3), (4, .int x4)]) (w : cw D dA o A s S H locs) : W p l e (rC_pairOf) s m args below meth c H locs 0 0 (cQi below args s D dA o A (rC_pairOf) post) (F0 m 41 ls [va_rf v0]) := by
  unfold C_pairOf_w41 at h
  obtain ⟨⟨hx, hb, hml, hown, hts⟩, hr, hlk, hA⟩ := id C
  refine lv_astoreQ (lv' := [(5, va_rf _), (0, .ref _), (1, .int _), (2, .int _), (3, .int _), (4, .int _)]) hx hb dX0_pairOf_41 hl (by decide) rfl (fun ls hl => ?_)
  refine lv_aloadQ hx hb dX0_pairOf_43 (lv_at hl 0 rfl) ?_
  obtain ⟨h1, h2⟩ := h
  refine lv_ifnullQ (tgt := 70) hx hb dX0_pairOf_45 (by decide) (fun c1 => ?_) (fun g1 c1 => ?_)
  · have h := h1 c1
    exact C_pairOf_a70 C hT5 h (lv_sub hl [1, 2, 3, 4, 5, 0] rfl) w
  · have h := h2 g1 c1
    rw [c1] at hl
    refine lv_iload hx hb dX0_pairOf_48 (lv_at hl 5 rfl) ?_
    refine lv_aload hx hb dX0_pairOf_50 (lv_at hl 0 rfl) ?_
    obtain ⟨hpk, h⟩ := h
    refine cr_getGp C w hpk nwF_RX0_116 dX0_pairOf_52 ?_
    refine lv_iconst (v := 4) hx hb dX0_pairOf_55 (by decide) ?_
    refine lv_imul hx hb dX0_pairOf_56 ?_
    refine lv_aload hx hb dX0_pairOf_57 (lv_at hl 0 rfl) ?_
    obtain ⟨hpk, h⟩ := h
    refine cr_getGs C w hpk nwF_RX0_119 dX0_pairOf_59 ?_
    refine lv_iadd hx hb dX0_pairOf_62 ?_
    obtain ⟨h1, h2⟩ := h
    refine lv_icmp_ge (tgt := 70) hx hb dX0_pairOf_63 (by decide) (fun c1 => ?_) (fun c1 => ?_)
    · have h := h1 c1
      exact C_pairOf_a70 C hT5 h (lv_sub hl [1, 2, 3, 4, 5, 0] rfl) w
    · have h := h2 c1
      refine lv_iconst (v := 1) hx hb dX0_pairOf_66 (by decide) ?_
      refine lv_goto (tgt := 71) hx hb dX0_pairOf_67 (by decide) ?_
      exact C_pairOf_a71 C hT5 h (lv_sub hl [1, 2, 3, 4, 5, 0] rfl) w
def C_pairOf_w5 (post : Int32 → CS → Prop) (T5 : Int32 → Int32 → Int32 → Int32 → CS → Prop) (x1 : Int32) (x2 : Int32) (x3 : Int32) (x4 : Int32) (S : CS) : Prop :=
  (((12 : Int32) ≤ x4 → post (-1 : Int32) S) ∧ (¬ (12 : Int32) ≤ x4 → (((kF S 1) ≤ (x4 / (4 : Int32)) → C_pairOf_w41 post T5 none x1 x2 x3 x4 S) ∧ (¬ (kF S 1) ≤ (x4 / (4 : Int32)) → (vp_in (x4 / (4 : Int32)) 3 ∧ (vp_in (x4 - x4 / (4 : Int32) * (4 : Int32)) 4 ∧ C_pairOf_w41 post T5 (kGl S (((x4 / (4 : Int32))).toNatClampNeg) ((x4 - x4 / (4 : Int32) * (4 : Int32))).toNatClampNeg) x1 x2 x3 x4 S))))))
set_option maxHeartbeats 4000000 in
set_option maxRecDepth 100000 in
theorem C_pairOf_a5 {p : Program} {l : Launch} {e : Env} {s : State} {m : MethodId} {args : Array Value} {below : List Frame} {meth : Method} {c : Code} {D : va_G} {dA : Nat → ClassId} {o : Nat → Nat} {A : Nat → Prop} {post : Int32 → CS → Prop} {T5 : Int32 → Int32 → Int32 → Int32 → CS → Prop} (C : cC RX0 p m c cX0_pairOf 7 s args meth (Option.some Jvm.ClassFile.FieldType.int) A) (hT5 : ∀ (x1 : Int32) (x2 : Int32) (x3 : Int32) (x4 : Int32) (S : CS), T5 x1 x2 x3 x4 S → ∀ (H : Heap) (locs : List Loc) (ls : Array Slot), lv_has ls 7 [(0, .ref (o 0)), (1, .int x1), (2, .int x2), (3, .int x3), (4, .int x4)] → cw D dA o A s S H locs → W p l e (rC_pairOf) s m args below meth c H locs 0 0 (cQi below args s D dA o A (rC_pairOf) post) (F0 m 5 ls [])) {x1 : Int32} {x2 : Int32} {x3 : Int32} {x4 : Int32} {S : CS} (h : C_pairOf_w5 post T5 x1 x2 x3 x4 S) {H : Heap} {locs : List Loc} {ls : Array Slot} (hl : lv_has ls 7 [(0, .ref (o 0)), (1, .int x1), (2, .int x2), (3, .int x3), (4, .int x4)]) (w : cw D dA o A s S H locs) : W p l e (rC_pairOf) s m args below meth c H locs 0 0 (cQi below args s D dA o A (rC_pairOf) post) (F0 m 5 ls []) := by
  unfold C_pairOf_w5 at h
  obtain ⟨⟨hx, hb, hml, hown, hts⟩, hr, hlk, hA⟩ := id C
  refine lv_iload hx hb dX0_pairOf_5 (lv_at hl 4 rfl) ?_
  refine lv_bipush (v := 12) hx hb dX0_pairOf_7 (by decide) ?_
  obtain ⟨h1, h2⟩ := h
  refine lv_icmp_ge (tgt := 127) hx hb dX0_pairOf_9 (by decide) (fun c1 => ?_) (fun c1 => ?_)
  · have h := h1 c1
    refine lv_iconst (v := -1) hx hb dX0_pairOf_127 (by decide) ?_
    exact cr_iret C w h (Nat.le_of_ble_eq_true rfl) (Nat.le_of_ble_eq_true rfl) dX0_pairOf_128
  · have h := h2 c1
    refine lv_iload hx hb dX0_pairOf_12 (lv_at hl 4 rfl) ?_
    refine lv_iconst (v := 4) hx hb dX0_pairOf_14 (by decide) ?_
    refine lv_idiv hx hb dX0_pairOf_15 (by decide) ?_
    refine lv_aload_n hx hb dX0_pairOf_16 rfl (lv_at hl 0 rfl) ?_
    refine cr_get C w 0 rfl rfl in_X0 1 (by decide) q164 rfl rfl dX0_pairOf_17 ?_
    obtain ⟨h1, h2⟩ := h
    refine lv_icmp_ge (tgt := 40) hx hb dX0_pairOf_20 (by decide) (fun c1 => ?_) (fun c1 => ?_)
    · have h := h1 c1
      refine lv_null hx hb dX0_pairOf_40 ?_
      exact C_pairOf_a41 C hT5 h (lv_sub hl [0, 1, 2, 3, 4] rfl) w
    · have h := h2 c1
      refine lv_aload_n hx hb dX0_pairOf_23 rfl (lv_at hl 0 rfl) ?_
      refine cr_get C w 0 rfl rfl in_X0 0 (by decide) q162 rfl rfl dX0_pairOf_24 ?_
      refine lv_iload hx hb dX0_pairOf_27 (lv_at hl 4 rfl) ?_
      refine lv_iconst (v := 4) hx hb dX0_pairOf_29 (by decide) ?_
      refine lv_idiv hx hb dX0_pairOf_30 (by decide) ?_
      obtain ⟨hi, h⟩ := h
      have hj1 := vp_lt hi
      refine cr_gout C w hi dX0_pairOf_31 ?_
      refine lv_iload hx hb dX0_pairOf_32 (lv_at hl 4 rfl) ?_
      refine lv_iconst (v := 4) hx hb dX0_pairOf_34 (by decide) ?_
      refine lv_irem hx hb dX0_pairOf_35 (by decide) ?_
      obtain ⟨hi, h⟩ := h
      refine cr_gin C w hj1 hi dX0_pairOf_36 ?_
      refine lv_goto (tgt := 41) hx hb dX0_pairOf_37 (by decide) ?_
      exact C_pairOf_a41 C hT5 h (lv_sub hl [0, 1, 2, 3, 4] rfl) w
def C_pairOf_w0 (post : Int32 → CS → Prop) (T5 : Int32 → Int32 → Int32 → Int32 → CS → Prop) (x1 : Int32) (x2 : Int32) (S : CS) : Prop :=
  T5 x1 x2 (0 : Int32) (0 : Int32) S
set_option maxHeartbeats 4000000 in
set_option maxRecDepth 100000 in
theorem C_pairOf_a0 {p : Program} {l : Launch} {e : Env} {s : State} {m : MethodId} {args : Array Value} {below : List Frame} {meth : Method} {c : Code} {D : va_G} {dA : Nat → ClassId} {o : Nat → Nat} {A : Nat → Prop} {post : Int32 → CS → Prop} {T5 : Int32 → Int32 → Int32 → Int32 → CS → Prop} (C : cC RX0 p m c cX0_pairOf 7 s args meth (Option.some Jvm.ClassFile.FieldType.int) A) (hT5 : ∀ (x1 : Int32) (x2 : Int32) (x3 : Int32) (x4 : Int32) (S : CS), T5 x1 x2 x3 x4 S → ∀ (H : Heap) (locs : List Loc) (ls : Array Slot), lv_has ls 7 [(0, .ref (o 0)), (1, .int x1), (2, .int x2), (3, .int x3), (4, .int x4)] → cw D dA o A s S H locs → W p l e (rC_pairOf) s m args below meth c H locs 0 0 (cQi below args s D dA o A (rC_pairOf) post) (F0 m 5 ls [])) {x1 : Int32} {x2 : Int32} {S : CS} (h : C_pairOf_w0 post T5 x1 x2 S) {H : Heap} {locs : List Loc} {ls : Array Slot} (hl : lv_has ls 7 [(0, .ref (o 0)), (1, .int x1), (2, .int x2)]) (w : cw D dA o A s S H locs) : W p l e (rC_pairOf) s m args below meth c H locs 0 0 (cQi below args s D dA o A (rC_pairOf) post) (F0 m 0 ls []) := by
  unfold C_pairOf_w0 at h
  obtain ⟨⟨hx, hb, hml, hown, hts⟩, hr, hlk, hA⟩ := id C
  refine lv_iconst (v := 0) hx hb dX0_pairOf_0 (by decide) ?_
  refine lv_istore_n (lv' := [(3, .int _), (0, .ref _), (1, .int _), (2, .int _)]) hx hb dX0_pairOf_1 rfl hl (by decide) rfl (fun ls hl => ?_)
  refine lv_iconst (v := 0) hx hb dX0_pairOf_2 (by decide) ?_
  refine lv_istore (lv' := [(4, .int _), (3, .int _), (0, .ref _), (1, .int _), (2, .int _)]) hx hb dX0_pairOf_3 hl (by decide) rfl (fun ls hl => ?_)
  exact hT5 _ _ _ _ _ h _ _ _ (lv_sub hl [2, 3, 4, 1, 0] rfl) w
def C_pairOf_VC (x1 : Int32) (x2 : Int32) (S : CS) (post : Int32 → CS → Prop) : Prop := ∀ (T5 : Int32 → Int32 → Int32 → Int32 → CS → Prop), (∀ (x1 : Int32) (x2 : Int32) (x3 : Int32) (x4 : Int32) (S : CS), C_pairOf_w5 post T5 x1 x2 x3 x4 S → T5 x1 x2 x3 x4 S) → C_pairOf_w0 post T5 x1 x2 S
theorem C_pairOf_ok {x1 : Int32} {x2 : Int32} {S : CS} {post : Int32 → CS → Prop} (h : C_pairOf_VC x1 x2 S post) : C_pairOf x1 x2 S post := by
  intro l D dA o sz
  refine cr_start (fun A => va_Qi post (cB D dA o A) A) rfl (Nat.le_of_ble_eq_true rfl) (by decide) ?_
  intro p e s m args below meth c ls A C w hl
  have hl : lv_has ls 7 [(0, .ref (o 0)), (1, .int x1), (2, .int x2)] := hl
  have h := h (fun (x1 : Int32) (x2 : Int32) (x3 : Int32) (x4 : Int32) S => ∀ (H : Heap) (locs : List Loc) (ls : Array Slot), lv_has ls 7 [(0, .ref (o 0)), (1, .int x1), (2, .int x2), (3, .int x3), (4, .int x4)] → cw D dA o A s S H locs → W p l e (rC_pairOf) s m args below meth c H locs 0 0 (cQi below args s D dA o A (rC_pairOf) post) (F0 m 5 ls [])) (fun _ _ _ _ S h H locs ls hl w => C_pairOf_a5 C (fun _ _ _ _ _ h => h) h hl w)
  exact C_pairOf_a0 C (fun _ _ _ _ _ h => h) h (lv_sub hl [0, 1, 2] rfl) w

/-! ThirdSheets.goAround(I[J)Z -/
def C_goAround_w153 (post : Int32 → CS → Prop) (T2 : Int32 → Nat → Int32 → CS → Prop) (T46 : Nat → Int32 → Int32 → Int32 → Int32 → CS → Prop) (T81 : Nat → Int32 → Int32 → Int32 → Int32 → Int32 → Int32 → Int32 → Int32 → CS → Prop) (v0 : Int64) (v1 : Int64) (v2 : Int32) (v3 : Nat) (a2 : Nat) (x3 : Int32) (x4 : Int32) (x5 : Int32) (x6 : Int32) (x9 : Int32) (x10 : Int32) (y11 : Option Nat) (S : CS) : Prop :=
  (pk S v3 3 ∧ vp_in v2 (kN S v3) ∧ (fun (S1 : CS) => (∃ g2 : Nat, y11 = some g2 ∧ pk S1 g2 0 ∧ (pk S1 (kG S1 g2).2.2 1 ∧ vp_in x9 (kN S1 (kG S1 g2).2.2) ∧ (∃ g3 : Nat, y11 = some g3 ∧ pk S1 g3 0 ∧ (pk S1 (kG S1 g3).2.2 1 ∧ vp_in x10 (kN S1 (kG S1 g3).2.2) ∧ (∃ g4 : Nat, y11 = some g4 ∧ pk S1 g4 0 ∧ (∃ g5 : Nat, y11 = some g5 ∧ pk S1 g5 0 ∧ ((¬ (kG S1 g4).1 = x3 → T81 a2 x3 x4 x5 x6 ((((6 : Int32) - (kT S1 (kG S1 g2).2.2 (x9).toNatClampNeg)) - (kT S1 (kG S1 g3).2.2 (x10).toNatClampNeg)) - (kG S1 g5).2.1) (kG S1 g4).1 (kT S1 (kG S1 g2).2.2 (x9).toNatClampNeg) (kT S1 (kG S1 g3).2.2 (x10).toNatClampNeg) S1) ∧ ((kG S1 g4).1 = x3 → ((¬ (kT S1 (kG S1 g2).2.2 (x9).toNatClampNeg) = x4 → T81 a2 x3 x4 x5 x6 ((((6 : Int32) - (kT S1 (kG S1 g2).2.2 (x9).toNatClampNeg)) - (kT S1 (kG S1 g3).2.2 (x10).toNatClampNeg)) - (kG S1 g5).2.1) (kG S1 g4).1 (kT S1 (kG S1 g2).2.2 (x9).toNatClampNeg) (kT S1 (kG S1 g3).2.2 (x10).toNatClampNeg) S1) ∧ ((kT S1 (kG S1 g2).2.2 (x9).toNatClampNeg) = x4 → ((¬ (kT S1 (kG S1 g3).2.2 (x10).toNatClampNeg) = x5 → T81 a2 x3 x4 x5 x6 ((((6 : Int32) - (kT S1 (kG S1 g2).2.2 (x9).toNatClampNeg)) - (kT S1 (kG S1 g3).2.2 (x10).toNatClampNeg)) - (kG S1 g5).2.1) (kG S1 g4).1 (kT S1 (kG S1 g2).2.2 (x9).toNatClampNeg) (kT S1 (kG S1 g3).2.2 (x10).toNatClampNeg) S1) ∧ ((kT S1 (kG S1 g3).2.2 (x10).toNatClampNeg) = x5 → ((¬ ((((6 : Int32) - (kT S1 (kG S1 g2).2.2 (x9).toNatClampNeg)) - (kT S1 (kG S1 g3).2.2 (x10).toNatClampNeg)) - (kG S1 g5).2.1) = x6 → T81 a2 x3 x4 x5 x6 ((((6 : Int32) - (kT S1 (kG S1 g2).2.2 (x9).toNatClampNeg)) - (kT S1 (kG S1 g3).2.2 (x10).toNatClampNeg)) - (kG S1 g5).2.1) (kG S1 g4).1 (kT S1 (kG S1 g2).2.2 (x9).toNatClampNeg) (kT S1 (kG S1 g3).2.2 (x10).toNatClampNeg) S1) ∧ (((((6 : Int32) - (kT S1 (kG S1 g2).2.2 (x9).toNatClampNeg)) - (kT S1 (kG S1 g3).2.2 (x10).toNatClampNeg)) - (kG S1 g5).2.1) = x6 → post (1 : Int32) S1))))))))))))))) (tR S v3 (v2).toNatClampNeg (v1 + v0)))
set_option maxHeartbeats 4000000 in
set_option maxRecDepth 100000 in
theorem C_goAround_a153 {p : Program} {l : Launch} {e : Env} {s : State} {m : MethodId} {args : Array Value} {below : List Frame} {meth : Method} {c : Code} {D : va_G} {dA : Nat → ClassId} {o : Nat → Nat} {A : Nat → Prop} {post : Int32 → CS → Prop} {T2 : Int32 → Nat → Int32 → CS → Prop} {T46 : Nat → Int32 → Int32 → Int32 → Int32 → CS → Prop} {T81 : Nat → Int32 → Int32 → Int32 → Int32 → Int32 → Int32 → Int32 → Int32 → CS → Prop} (C : cC RX0 p m c cX0_goAround 13 s args meth (Option.some Jvm.ClassFile.FieldType.boolean) A) (hT2 : ∀ (x1 : Int32) (a2 : Nat) (x3 : Int32) (S : CS), T2 x1 a2 x3 S → ∀ (H : Heap) (locs : List Loc) (ls : Array Slot), lv_has ls 13 [(0, .ref (o 0)), (1, .int x1), (2, .ref a2), (3, .int x3)] → cw D dA o A s S H locs → W p l e (rC_goAround) s m args below meth c H locs 0 0 (cQi below args s D dA o A (rC_goAround) post) (F0 m 2 ls [])) (hT46 : ∀ (a2 : Nat) (x3 : Int32) (x4 : Int32) (x5 : Int32) (x6 : Int32) (S : CS), T46 a2 x3 x4 x5 x6 S → ∀ (H : Heap) (locs : List Loc) (ls : Array Slot), lv_has ls 13 [(0, .ref (o 0)), (2, .ref a2), (3, .int x3), (4, .int x4), (5, .int x5), (6, .int x6)] → cw D dA o A s S H locs → W p l e (rC_goAround) s m args below meth c H locs 0 0 (cQi below args s D dA o A (rC_goAround) post) (F0 m 46 ls [])) (hT81 : ∀ (a2 : Nat) (x3 : Int32) (x4 : Int32) (x5 : Int32) (x6 : Int32) (x7 : Int32) (x8 : Int32) (x9 : Int32) (x10 : Int32) (S : CS), T81 a2 x3 x4 x5 x6 x7 x8 x9 x10 S → ∀ (H : Heap) (locs : List Loc) (ls : Array Slot), lv_has ls 13 [(0, .ref (o 0)), (2, .ref a2), (3, .int x3), (4, .int x4), (5, .int x5), (6, .int x6), (7, .int x7), (8, .int x8), (9, .int x9), (10, .int x10)] → cw D dA o A s S H locs → W p l e (rC_goAround) s m args below meth c H locs 0 0 (cQi below args s D dA o A (rC_goAround) post) (F0 m 81 ls [])) {v0 : Int64} {v1 : Int64} {v2 : Int32} {v3 : Nat} {a2 : Nat} {x3 : Int32} {x4 : Int32} {x5 : Int32} {x6 : Int32} {x9 : Int32} {x10 : Int32} {y11 : Option Nat} {S : CS} (h : C_goAround_w153 post T2 T46 T81 v0 v1 v2 v3 a2 x3 x4 x5 x6 x9 x10 y11 S) {H : Heap} {locs : List Loc} {ls : Array Slot} (hl : lv_has ls 13 [(0, .ref (o 0)), (2, .ref a2), (3, .int x3), (4, .int x4), (5, .int x5), (6, .int x6), (9, .int x9), (10, .int x10), (11, va_rf y11)]) (w : cw D dA o A s S H locs) : W p l e (rC_goAround) s m args below meth c H locs 0 0 (cQi below args s D dA o A (rC_goAround) post) (F0 m 153 ls [.long v0, .long v1, .int v2, .ref v3]) := by
  unfold C_goAround_w153 at h
  obtain ⟨⟨hx, hb, hml, hown, hts⟩, hr, hlk, hA⟩ := id C
  refine lv_ladd hx hb dX0_goAround_153 ?_
  obtain ⟨hpk, hi, h⟩ := h
  refine cr_rast C w hpk hi dX0_goAround_154 (fun H locs w => ?_)
  refine lv_aloadQ hx hb dX0_goAround_155 (lv_at hl 8 rfl) ?_
  obtain ⟨g2, hg, hpk, h⟩ := h
  refine cr_opt hg ?_
  refine cr_getGt C w hpk nwF_RX0_175 dX0_goAround_157 ?_
  refine lv_iload hx hb dX0_goAround_160 (lv_at hl 6 rfl) ?_
  obtain ⟨hpk, hi, h⟩ := h
  refine cr_tald C w hpk hi dX0_goAround_162 ?_
  refine lv_istore (lv' := [(9, .int _), (0, .ref _), (2, .ref _), (3, .int _), (4, .int _), (5, .int _), (6, .int _), (10, .int _), (11, va_rf _)]) hx hb dX0_goAround_163 hl (by decide) rfl (fun ls hl => ?_)
  refine lv_aloadQ hx hb dX0_goAround_165 (lv_at hl 8 rfl) ?_
  obtain ⟨g3, hg, hpk, h⟩ := h
  refine cr_opt hg ?_
  refine cr_getGt C w hpk nwF_RX0_175 dX0_goAround_167 ?_
  refine lv_iload hx hb dX0_goAround_170 (lv_at hl 7 rfl) ?_
  obtain ⟨hpk, hi, h⟩ := h
  refine cr_tald C w hpk hi dX0_goAround_172 ?_
  refine lv_istore (lv' := [(10, .int _), (9, .int _), (0, .ref _), (2, .ref _), (3, .int _), (4, .int _), (5, .int _), (6, .int _), (11, va_rf _)]) hx hb dX0_goAround_173 hl (by decide) rfl (fun ls hl => ?_)
  refine lv_aloadQ hx hb dX0_goAround_175 (lv_at hl 8 rfl) ?_
  obtain ⟨g4, hg, hpk, h⟩ := h
  refine cr_opt hg ?_
  refine cr_getGp C w hpk nwF_RX0_116 dX0_goAround_177 ?_
  refine lv_istore (lv' := [(8, .int _), (10, .int _), (9, .int _), (0, .ref _), (2, .ref _), (3, .int _), (4, .int _), (5, .int _), (6, .int _), (11, va_rf _)]) hx hb dX0_goAround_180 hl (by decide) rfl (fun ls hl => ?_)
  refine lv_bipush (v := 6) hx hb dX0_goAround_182 (by decide) ?_
  refine lv_iload hx hb dX0_goAround_184 (lv_at hl 2 rfl) ?_
  refine lv_isub hx hb dX0_goAround_186 ?_
  refine lv_iload hx hb dX0_goAround_187 (lv_at hl 1 rfl) ?_
  refine lv_isub hx hb dX0_goAround_189 ?_
  refine lv_aloadQ hx hb dX0_goAround_190 (lv_at hl 9 rfl) ?_
  obtain ⟨g5, hg, hpk, h⟩ := h
  refine cr_opt hg ?_
  refine cr_getGs C w hpk nwF_RX0_119 dX0_goAround_192 ?_
  refine lv_isub hx hb dX0_goAround_195 ?_
  refine lv_istore (lv' := [(7, .int _), (8, .int _), (10, .int _), (9, .int _), (0, .ref _), (2, .ref _), (3, .int _), (4, .int _), (5, .int _), (6, .int _), (11, va_rf _)]) hx hb dX0_goAround_196 hl (by decide) rfl (fun ls hl => ?_)
  refine lv_iload hx hb dX0_goAround_198 (lv_at hl 1 rfl) ?_
  refine lv_iload_n hx hb dX0_goAround_200 rfl (lv_at hl 6 rfl) ?_
  obtain ⟨h1, h2⟩ := h
  refine lv_icmp_ne (tgt := 81) hx hb dX0_goAround_201 (by decide) (fun c1 => ?_) (fun c1 => ?_)
  · have h := h1 c1
    exact hT81 _ _ _ _ _ _ _ _ _ _ h _ _ _ (lv_sub hl [4, 5, 6, 7, 8, 9, 0, 1, 3, 2] rfl) w
  · have h := h2 c1
    refine lv_iload hx hb dX0_goAround_204 (lv_at hl 3 rfl) ?_
    refine lv_iload hx hb dX0_goAround_206 (lv_at hl 7 rfl) ?_
    obtain ⟨h1, h2⟩ := h
    refine lv_icmp_ne (tgt := 81) hx hb dX0_goAround_208 (by decide) (fun c1 => ?_) (fun c1 => ?_)
    · have h := h1 c1
      exact hT81 _ _ _ _ _ _ _ _ _ _ h _ _ _ (lv_sub hl [4, 5, 6, 7, 8, 9, 0, 1, 3, 2] rfl) w
    · have h := h2 c1
      refine lv_iload hx hb dX0_goAround_211 (lv_at hl 2 rfl) ?_
      refine lv_iload hx hb dX0_goAround_213 (lv_at hl 8 rfl) ?_
      obtain ⟨h1, h2⟩ := h
      refine lv_icmp_ne (tgt := 81) hx hb dX0_goAround_215 (by decide) (fun c1 => ?_) (fun c1 => ?_)
      · have h := h1 c1
        exact hT81 _ _ _ _ _ _ _ _ _ _ h _ _ _ (lv_sub hl [4, 5, 6, 7, 8, 9, 0, 1, 3, 2] rfl) w
      · have h := h2 c1
        refine lv_iload hx hb dX0_goAround_218 (lv_at hl 0 rfl) ?_
        refine lv_iload hx hb dX0_goAround_220 (lv_at hl 9 rfl) ?_
        obtain ⟨h1, h2⟩ := h
        refine lv_icmp_ne (tgt := 81) hx hb dX0_goAround_222 (by decide) (fun c1 => ?_) (fun c1 => ?_)
        · have h := h1 c1
          exact hT81 _ _ _ _ _ _ _ _ _ _ h _ _ _ (lv_sub hl [4, 5, 6, 7, 8, 9, 0, 1, 3, 2] rfl) w
        · have h := h2 c1
          refine lv_iconst (v := 1) hx hb dX0_goAround_225 (by decide) ?_
          exact cr_zret C w rfl h (Nat.le_of_ble_eq_true rfl) (Nat.le_of_ble_eq_true rfl) dX0_goAround_226
def C_goAround_w128 (post : Int32 → CS → Prop) (T2 : Int32 → Nat → Int32 → CS → Prop) (T46 : Nat → Int32 → Int32 → Int32 → Int32 → CS → Prop) (T81 : Nat → Int32 → Int32 → Int32 → Int32 → Int32 → Int32 → Int32 → Int32 → CS → Prop) (v0 : Int32) (a2 : Nat) (x3 : Int32) (x4 : Int32) (x5 : Int32) (x6 : Int32) (x7 : Int32) (x8 : Int32) (x9 : Int32) (x10 : Int32) (y11 : Option Nat) (S : CS) : Prop :=
  C_pairOf x8 x7 S (fun (r1 : Int32) (S1 : CS) => (pk S1 a2 3 ∧ vp_in r1 (kN S1 a2) ∧ ((v0 = 0 → C_goAround_w153 post T2 T46 T81 (-1 : Int64) (kR S1 a2 (r1).toNatClampNeg) r1 a2 a2 x3 x4 x5 x6 x9 x10 y11 S1) ∧ (¬ v0 = 0 → C_goAround_w153 post T2 T46 T81 (1 : Int64) (kR S1 a2 (r1).toNatClampNeg) r1 a2 a2 x3 x4 x5 x6 x9 x10 y11 S1))))
set_option maxHeartbeats 4000000 in
set_option maxRecDepth 100000 in
theorem C_goAround_a128 {p : Program} {l : Launch} {e : Env} {s : State} {m : MethodId} {args : Array Value} {below : List Frame} {meth : Method} {c : Code} {D : va_G} {dA : Nat → ClassId} {o : Nat → Nat} {A : Nat → Prop} {post : Int32 → CS → Prop} {T2 : Int32 → Nat → Int32 → CS → Prop} {T46 : Nat → Int32 → Int32 → Int32 → Int32 → CS → Prop} {T81 : Nat → Int32 → Int32 → Int32 → Int32 → Int32 → Int32 → Int32 → Int32 → CS → Prop} (C : cC RX0 p m c cX0_goAround 13 s args meth (Option.some Jvm.ClassFile.FieldType.boolean) A) (hT2 : ∀ (x1 : Int32) (a2 : Nat) (x3 : Int32) (S : CS), T2 x1 a2 x3 S → ∀ (H : Heap) (locs : List Loc) (ls : Array Slot), lv_has ls 13 [(0, .ref (o 0)), (1, .int x1), (2, .ref a2), (3, .int x3)] → cw D dA o A s S H locs → W p l e (rC_goAround) s m args below meth c H locs 0 0 (cQi below args s D dA o A (rC_goAround) post) (F0 m 2 ls [])) (hT46 : ∀ (a2 : Nat) (x3 : Int32) (x4 : Int32) (x5 : Int32) (x6 : Int32) (S : CS), T46 a2 x3 x4 x5 x6 S → ∀ (H : Heap) (locs : List Loc) (ls : Array Slot), lv_has ls 13 [(0, .ref (o 0)), (2, .ref a2), (3, .int x3), (4, .int x4), (5, .int x5), (6, .int x6)] → cw D dA o A s S H locs → W p l e (rC_goAround) s m args below meth c H locs 0 0 (cQi below args s D dA o A (rC_goAround) post) (F0 m 46 ls [])) (hT81 : ∀ (a2 : Nat) (x3 : Int32) (x4 : Int32) (x5 : Int32) (x6 : Int32) (x7 : Int32) (x8 : Int32) (x9 : Int32) (x10 : Int32) (S : CS), T81 a2 x3 x4 x5 x6 x7 x8 x9 x10 S → ∀ (H : Heap) (locs : List Loc) (ls : Array Slot), lv_has ls 13 [(0, .ref (o 0)), (2, .ref a2), (3, .int x3), (4, .int x4), (5, .int x5), (6, .int x6), (7, .int x7), (8, .int x8), (9, .int x9), (10, .int x10)] → cw D dA o A s S H locs → W p l e (rC_goAround) s m args below meth c H locs 0 0 (cQi below args s D dA o A (rC_goAround) post) (F0 m 81 ls [])) {v0 : Int32} {a2 : Nat} {x3 : Int32} {x4 : Int32} {x5 : Int32} {x6 : Int32} {x7 : Int32} {x8 : Int32} {x9 : Int32} {x10 : Int32} {y11 : Option Nat} {S : CS} (h : C_goAround_w128 post T2 T46 T81 v0 a2 x3 x4 x5 x6 x7 x8 x9 x10 y11 S) {H : Heap} {locs : List Loc} {ls : Array Slot} (hl : lv_has ls 13 [(0, .ref (o 0)), (2, .ref a2), (3, .int x3), (4, .int x4), (5, .int x5), (6, .int x6), (7, .int x7), (8, .int x8), (9, .int x9), (10, .int x10), (11, va_rf y11)]) (w : cw D dA o A s S H locs) : W p l e (rC_goAround) s m args below meth c H locs 0 0 (cQi below args s D dA o A (rC_goAround) post) (F0 m 128 ls [.int v0]) := by
  unfold C_goAround_w128 at h
  obtain ⟨⟨hx, hb, hml, hown, hts⟩, hr, hlk, hA⟩ := id C
  refine lv_istore (lv' := [(12, .int _), (0, .ref _), (2, .ref _), (3, .int _), (4, .int _), (5, .int _), (6, .int _), (7, .int _), (8, .int _), (9, .int _), (10, .int _), (11, va_rf _)]) hx hb dX0_goAround_128 hl (by decide) ((congrArg (List.cons _) (lv_filtC (by intro q hq hq1; simp only [List.mem_cons, List.not_mem_nil, or_false] at hq; rcases hq with rfl | rfl | rfl | rfl | rfl | rfl | rfl | rfl | rfl | rfl | rfl <;> first | exact va_rf_cat _ | (exfalso; simp at hq1)))).trans rfl) (fun ls hl => ?_)
  refine lv_aload_n hx hb dX0_goAround_130 rfl (lv_at hl 2 rfl) ?_
  refine lv_aload_n hx hb dX0_goAround_131 rfl (lv_at hl 1 rfl) ?_
  refine lv_iload hx hb dX0_goAround_132 (lv_at hl 8 rfl) ?_
  refine lv_iload hx hb dX0_goAround_134 (lv_at hl 7 rfl) ?_
  refine cr_callVI (rest := [.ref _]) (b := (fun o => o 0)) C w h (recv0 w) (cwV 2 hts (lw_V q410 q412 qs11 q82 q413) rfl rfl rfl C_pairOf_d ⟨Nat.le_of_ble_eq_true rfl, Nat.le_of_ble_eq_true rfl⟩) rfl hl.1 rfl (Nat.le_of_ble_eq_true rfl) ⟨Nat.le_of_ble_eq_true rfl, Nat.le_of_ble_eq_true rfl⟩ dX0_goAround_136 (fun r1 S1 H locs h w => ?_)
  refine lv_dup2_11 hx hb dX0_goAround_139 rfl rfl ?_
  obtain ⟨hpk, hi, h⟩ := h
  refine cr_rald C w hpk hi dX0_goAround_140 ?_
  refine lv_iload hx hb dX0_goAround_141 (lv_at hl 0 rfl) ?_
  obtain ⟨h1, h2⟩ := h
  refine lv_if_eq (tgt := 150) hx hb dX0_goAround_143 (by decide) (fun c1 => ?_) (fun c1 => ?_)
  · have h := h1 c1
    refine lv_ldc2 hx hb hown (hts _ q414) dX0_goAround_150 ?_
    exact C_goAround_a153 C hT2 hT46 hT81 h (lv_sub hl [1, 2, 3, 4, 5, 6, 9, 10, 11] rfl) w
  · have h := h2 c1
    refine lv_lconst (v := 1) hx hb dX0_goAround_146 (by decide) ?_
    refine lv_goto (tgt := 153) hx hb dX0_goAround_147 (by decide) ?_
    exact C_goAround_a153 C hT2 hT46 hT81 h (lv_sub hl [1, 2, 3, 4, 5, 6, 9, 10, 11] rfl) w
def C_goAround_w81 (post : Int32 → CS → Prop) (T2 : Int32 → Nat → Int32 → CS → Prop) (T46 : Nat → Int32 → Int32 → Int32 → Int32 → CS → Prop) (T81 : Nat → Int32 → Int32 → Int32 → Int32 → Int32 → Int32 → Int32 → Int32 → CS → Prop) (a2 : Nat) (x3 : Int32) (x4 : Int32) (x5 : Int32) (x6 : Int32) (x7 : Int32) (x8 : Int32) (x9 : Int32) (x10 : Int32) (S : CS) : Prop :=
  (vp_in x8 3 ∧ (vp_in x7 4 ∧ ((∀ g2 : Nat, (kGl S ((x8).toNatClampNeg) (x7).toNatClampNeg) = some g2 → (pk S g2 0 ∧ (pk S g2 0 ∧ (((((kG S g2).1 * (4 : Int32)) + (kG S g2).2.1) ≤ ((x8 * (4 : Int32)) + x7) → C_goAround_w128 post T2 T46 T81 (0 : Int32) a2 x3 x4 x5 x6 x7 x8 x9 x10 (some g2) S) ∧ (¬ (((kG S g2).1 * (4 : Int32)) + (kG S g2).2.1) ≤ ((x8 * (4 : Int32)) + x7) → C_goAround_w128 post T2 T46 T81 (1 : Int32) a2 x3 x4 x5 x6 x7 x8 x9 x10 (some g2) S))))) ∧ ((kGl S ((x8).toNatClampNeg) (x7).toNatClampNeg) = none → post (0 : Int32) S))))
set_option maxHeartbeats 4000000 in
set_option maxRecDepth 100000 in
theorem C_goAround_a81 {p : Program} {l : Launch} {e : Env} {s : State} {m : MethodId} {args : Array Value} {below : List Frame} {meth : Method} {c : Code} {D : va_G} {dA : Nat → ClassId} {o : Nat → Nat} {A : Nat → Prop} {post : Int32 → CS → Prop} {T2 : Int32 → Nat → Int32 → CS → Prop} {T46 : Nat → Int32 → Int32 → Int32 → Int32 → CS → Prop} {T81 : Nat → Int32 → Int32 → Int32 → Int32 → Int32 → Int32 → Int32 → Int32 → CS → Prop} (C : cC RX0 p m c cX0_goAround 13 s args meth (Option.some Jvm.ClassFile.FieldType.boolean) A) (hT2 : ∀ (x1 : Int32) (a2 : Nat) (x3 : Int32) (S : CS), T2 x1 a2 x3 S → ∀ (H : Heap) (locs : List Loc) (ls : Array Slot), lv_has ls 13 [(0, .ref (o 0)), (1, .int x1), (2, .ref a2), (3, .int x3)] → cw D dA o A s S H locs → W p l e (rC_goAround) s m args below meth c H locs 0 0 (cQi below args s D dA o A (rC_goAround) post) (F0 m 2 ls [])) (hT46 : ∀ (a2 : Nat) (x3 : Int32) (x4 : Int32) (x5 : Int32) (x6 : Int32) (S : CS), T46 a2 x3 x4 x5 x6 S → ∀ (H : Heap) (locs : List Loc) (ls : Array Slot), lv_has ls 13 [(0, .ref (o 0)), (2, .ref a2), (3, .int x3), (4, .int x4), (5, .int x5), (6, .int x6)] → cw D dA o A s S H locs → W p l e (rC_goAround) s m args below meth c H locs 0 0 (cQi below args s D dA o A (rC_goAround) post) (F0 m 46 ls [])) (hT81 : ∀ (a2 : Nat) (x3 : Int32) (x4 : Int32) (x5 : Int32) (x6 : Int32) (x7 : Int32) (x8 : Int32) (x9 : Int32) (x10 : Int32) (S : CS), T81 a2 x3 x4 x5 x6 x7 x8 x9 x10 S → ∀ (H : Heap) (locs : List Loc) (ls : Array Slot), lv_has ls 13 [(0, .ref (o 0)), (2, .ref a2), (3, .int x3), (4, .int x4), (5, .int x5), (6, .int x6), (7, .int x7), (8, .int x8), (9, .int x9), (10, .int x10)] → cw D dA o A s S H locs → W p l e (rC_goAround) s m args below meth c H locs 0 0 (cQi below args s D dA o A (rC_goAround) post) (F0 m 81 ls [])) {a2 : Nat} {x3 : Int32} {x4 : Int32} {x5 : Int32} {x6 : Int32} {x7 : Int32} {x8 : Int32} {x9 : Int32} {x10 : Int32} {S : CS} (h : C_goAround_w81 post T2 T46 T81 a2 x3 x4 x5 x6 x7 x8 x9 x10 S) {H : Heap} {locs : List Loc} {ls : Array Slot} (hl : lv_has ls 13 [(0, .ref (o 0)), (2, .ref a2), (3, .int x3), (4, .int x4), (5, .int x5), (6, .int x6), (7, .int x7), (8, .int x8), (9, .int x9), (10, .int x10)]) (w : cw D dA o A s S H locs) : W p l e (rC_goAround) s m args below meth c H locs 0 0 (cQi below args s D dA o A (rC_goAround) post) (F0 m 81 ls []) := by
  unfold C_goAround_w81 at h
  obtain ⟨⟨hx, hb, hml, hown, hts⟩, hr, hlk, hA⟩ := id C
  refine lv_aload_n hx hb dX0_goAround_81 rfl (lv_at hl 0 rfl) ?_
  refine cr_get C w 0 rfl rfl in_X0 0 (by decide) q162 rfl rfl dX0_goAround_82 ?_
  refine lv_iload hx hb dX0_goAround_85 (lv_at hl 7 rfl) ?_
  obtain ⟨hi, h⟩ := h
  have hj1 := vp_lt hi
  refine cr_gout C w hi dX0_goAround_87 ?_
  refine lv_iload hx hb dX0_goAround_88 (lv_at hl 6 rfl) ?_
  obtain ⟨hi, h⟩ := h
  refine cr_gin C w hj1 hi dX0_goAround_90 ?_
  refine lv_astoreQ (lv' := [(11, va_rf _), (0, .ref _), (2, .ref _), (3, .int _), (4, .int _), (5, .int _), (6, .int _), (7, .int _), (8, .int _), (9, .int _), (10, .int _)]) hx hb dX0_goAround_91 hl (by decide) rfl (fun ls hl => ?_)
  refine lv_aloadQ hx hb dX0_goAround_93 (lv_at hl 0 rfl) ?_
  obtain ⟨h1, h2⟩ := h
  refine lv_ifnonnullQ (tgt := 100) hx hb dX0_goAround_95 (by decide) (fun g2 c1 => ?_) (fun c1 => ?_)
  · have h := h1 g2 c1
    rw [c1] at hl
    refine lv_iload hx hb dX0_goAround_100 (lv_at hl 8 rfl) ?_
    refine lv_iconst (v := 4) hx hb dX0_goAround_102 (by decide) ?_
    refine lv_imul hx hb dX0_goAround_103 ?_
    refine lv_iload hx hb dX0_goAround_104 (lv_at hl 7 rfl) ?_
    refine lv_iadd hx hb dX0_goAround_106 ?_
    refine lv_aload hx hb dX0_goAround_107 (lv_at hl 0 rfl) ?_
    obtain ⟨hpk, h⟩ := h
    refine cr_getGp C w hpk nwF_RX0_116 dX0_goAround_109 ?_
    refine lv_iconst (v := 4) hx hb dX0_goAround_112 (by decide) ?_
    refine lv_imul hx hb dX0_goAround_113 ?_
    refine lv_aload hx hb dX0_goAround_114 (lv_at hl 0 rfl) ?_
    obtain ⟨hpk, h⟩ := h
    refine cr_getGs C w hpk nwF_RX0_119 dX0_goAround_116 ?_
    refine lv_iadd hx hb dX0_goAround_119 ?_
    obtain ⟨h1, h2⟩ := h
    refine lv_icmp_ge (tgt := 127) hx hb dX0_goAround_120 (by decide) (fun c1 => ?_) (fun c1 => ?_)
    · have h := h1 c1
      refine lv_iconst (v := 0) hx hb dX0_goAround_127 (by decide) ?_
      exact C_goAround_a128 C hT2 hT46 hT81 h (lv_sub hl [1, 2, 3, 4, 5, 6, 7, 8, 9, 10, 0] rfl) w
    · have h := h2 c1
      refine lv_iconst (v := 1) hx hb dX0_goAround_123 (by decide) ?_
      refine lv_goto (tgt := 128) hx hb dX0_goAround_124 (by decide) ?_
      exact C_goAround_a128 C hT2 hT46 hT81 h (lv_sub hl [1, 2, 3, 4, 5, 6, 7, 8, 9, 10, 0] rfl) w
  · have h := h2 c1
    refine lv_iconst (v := 0) hx hb dX0_goAround_98 (by decide) ?_
    exact cr_zret C w rfl h (Nat.le_of_ble_eq_true rfl) (Nat.le_of_ble_eq_true rfl) dX0_goAround_99
def C_goAround_w60 (post : Int32 → CS → Prop) (T2 : Int32 → Nat → Int32 → CS → Prop) (T46 : Nat → Int32 → Int32 → Int32 → Int32 → CS → Prop) (T81 : Nat → Int32 → Int32 → Int32 → Int32 → Int32 → Int32 → Int32 → Int32 → CS → Prop) (a2 : Nat) (x3 : Int32) (x4 : Int32) (x5 : Int32) (x6 : Int32) (S : CS) : Prop :=
  T46 a2 x3 x4 x5 (x6 + (1 : Int32)) S
set_option maxHeartbeats 4000000 in
set_option maxRecDepth 100000 in
theorem C_goAround_a60 {p : Program} {l : Launch} {e : Env} {s : State} {m : MethodId} {args : Array Value} {below : List Frame} {meth : Method} {c : Code} {D : va_G} {dA : Nat → ClassId} {o : Nat → Nat} {A : Nat → Prop} {post : Int32 → CS → Prop} {T2 : Int32 → Nat → Int32 → CS → Prop} {T46 : Nat → Int32 → Int32 → Int32 → Int32 → CS → Prop} {T81 : Nat → Int32 → Int32 → Int32 → Int32 → Int32 → Int32 → Int32 → Int32 → CS → Prop} (C : cC RX0 p m c cX0_goAround 13 s args meth (Option.some Jvm.ClassFile.FieldType.boolean) A) (hT2 : ∀ (x1 : Int32) (a2 : Nat) (x3 : Int32) (S : CS), T2 x1 a2 x3 S → ∀ (H : Heap) (locs : List Loc) (ls : Array Slot), lv_has ls 13 [(0, .ref (o 0)), (1, .int x1), (2, .ref a2), (3, .int x3)] → cw D dA o A s S H locs → W p l e (rC_goAround) s m args below meth c H locs 0 0 (cQi below args s D dA o A (rC_goAround) post) (F0 m 2 ls [])) (hT46 : ∀ (a2 : Nat) (x3 : Int32) (x4 : Int32) (x5 : Int32) (x6 : Int32) (S : CS), T46 a2 x3 x4 x5 x6 S → ∀ (H : Heap) (locs : List Loc) (ls : Array Slot), lv_has ls 13 [(0, .ref (o 0)), (2, .ref a2), (3, .int x3), (4, .int x4), (5, .int x5), (6, .int x6)] → cw D dA o A s S H locs → W p l e (rC_goAround) s m args below meth c H locs 0 0 (cQi below args s D dA o A (rC_goAround) post) (F0 m 46 ls [])) (hT81 : ∀ (a2 : Nat) (x3 : Int32) (x4 : Int32) (x5 : Int32) (x6 : Int32) (x7 : Int32) (x8 : Int32) (x9 : Int32) (x10 : Int32) (S : CS), T81 a2 x3 x4 x5 x6 x7 x8 x9 x10 S → ∀ (H : Heap) (locs : List Loc) (ls : Array Slot), lv_has ls 13 [(0, .ref (o 0)), (2, .ref a2), (3, .int x3), (4, .int x4), (5, .int x5), (6, .int x6), (7, .int x7), (8, .int x8), (9, .int x9), (10, .int x10)] → cw D dA o A s S H locs → W p l e (rC_goAround) s m args below meth c H locs 0 0 (cQi below args s D dA o A (rC_goAround) post) (F0 m 81 ls [])) {a2 : Nat} {x3 : Int32} {x4 : Int32} {x5 : Int32} {x6 : Int32} {S : CS} (h : C_goAround_w60 post T2 T46 T81 a2 x3 x4 x5 x6 S) {H : Heap} {locs : List Loc} {ls : Array Slot} (hl : lv_has ls 13 [(0, .ref (o 0)), (2, .ref a2), (3, .int x3), (4, .int x4), (5, .int x5), (6, .int x6)]) (w : cw D dA o A s S H locs) : W p l e (rC_goAround) s m args below meth c H locs 0 0 (cQi below args s D dA o A (rC_goAround) post) (F0 m 60 ls []) := by
  unfold C_goAround_w60 at h
  obtain ⟨⟨hx, hb, hml, hown, hts⟩, hr, hlk, hA⟩ := id C
  refine lv_iinc (v := _ + (1 : Int32)) (lv' := [(6, .int _), (0, .ref _), (2, .ref _), (3, .int _), (4, .int _), (5, .int _)]) hx hb dX0_goAround_60 hl (k := 5) rfl rfl (by decide) rfl (fun ls hl => ?_)
  refine lv_goto (tgt := 46) hx hb dX0_goAround_63 (by decide) ?_
  exact hT46 _ _ _ _ _ _ h _ _ _ (lv_sub hl [1, 2, 3, 4, 5, 0] rfl) w
def C_goAround_w46 (post : Int32 → CS → Prop) (T2 : Int32 → Nat → Int32 → CS → Prop) (T46 : Nat → Int32 → Int32 → Int32 → Int32 → CS → Prop) (T81 : Nat → Int32 → Int32 → Int32 → Int32 → Int32 → Int32 → Int32 → Int32 → CS → Prop) (a2 : Nat) (x3 : Int32) (x4 : Int32) (x5 : Int32) (x6 : Int32) (S : CS) : Prop :=
  ((x6 = x4 → C_goAround_w60 post T2 T46 T81 a2 x3 x4 x5 x6 S) ∧ (¬ x6 = x4 → ((¬ x6 = x5 → T81 a2 x3 x4 x5 x6 x6 x3 x4 x5 S) ∧ (x6 = x5 → C_goAround_w60 post T2 T46 T81 a2 x3 x4 x5 x6 S))))
set_option maxHeartbeats 4000000 in
set_option maxRecDepth 100000 in
theorem C_goAround_a46 {p : Program} {l : Launch} {e : Env} {s : State} {m : MethodId} {args : Array Value} {below : List Frame} {meth : Method} {c : Code} {D : va_G} {dA : Nat → ClassId} {o : Nat → Nat} {A : Nat → Prop} {post : Int32 → CS → Prop} {T2 : Int32 → Nat → Int32 → CS → Prop} {T46 : Nat → Int32 → Int32 → Int32 → Int32 → CS → Prop} {T81 : Nat → Int32 → Int32 → Int32 → Int32 → Int32 → Int32 → Int32 → Int32 → CS → Prop} (C : cC RX0 p m c cX0_goAround 13 s args meth (Option.some Jvm.ClassFile.FieldType.boolean) A) (hT2 : ∀ (x1 : Int32) (a2 : Nat) (x3 : Int32) (S : CS), T2 x1 a2 x3 S → ∀ (H : Heap) (locs : List Loc) (ls : Array Slot), lv_has ls 13 [(0, .ref (o 0)), (1, .int x1), (2, .ref a2), (3, .int x3)] → cw D dA o A s S H locs → W p l e (rC_goAround) s m args below meth c H locs 0 0 (cQi below args s D dA o A (rC_goAround) post) (F0 m 2 ls [])) (hT46 : ∀ (a2 : Nat) (x3 : Int32) (x4 : Int32) (x5 : Int32) (x6 : Int32) (S : CS), T46 a2 x3 x4 x5 x6 S → ∀ (H : Heap) (locs : List Loc) (ls : Array Slot), lv_has ls 13 [(0, .ref (o 0)), (2, .ref a2), (3, .int x3), (4, .int x4), (5, .int x5), (6, .int x6)] → cw D dA o A s S H locs → W p l e (rC_goAround) s m args below meth c H locs 0 0 (cQi below args s D dA o A (rC_goAround) post) (F0 m 46 ls [])) (hT81 : ∀ (a2 : Nat) (x3 : Int32) (x4 : Int32) (x5 : Int32) (x6 : Int32) (x7 : Int32) (x8 : Int32) (x9 : Int32) (x10 : Int32) (S : CS), T81 a2 x3 x4 x5 x6 x7 x8 x9 x10 S → ∀ (H : Heap) (locs : List Loc) (ls : Array Slot), lv_has ls 13 [(0, .ref (o 0)), (2, .ref a2), (3, .int x3), (4, .int x4), (5, .int x5), (6, .int x6), (7, .int x7), (8, .int x8), (9, .int x9), (10, .int x10)] → cw D dA o A s S H locs → W p l e (rC_goAround) s m args below meth c H locs 0 0 (cQi below args s D dA o A (rC_goAround) post) (F0 m 81 ls [])) {a2 : Nat} {x3 : Int32} {x4 : Int32} {x5 : Int32} {x6 : Int32} {S : CS} (h : C_goAround_w46 post T2 T46 T81 a2 x3 x4 x5 x6 S) {H : Heap} {locs : List Loc} {ls : Array Slot} (hl : lv_has ls 13 [(0, .ref (o 0)), (2, .ref a2), (3, .int x3), (4, .int x4), (5, .int x5), (6, .int x6)]) (w : cw D dA o A s S H locs) : W p l e (rC_goAround) s m args below meth c H locs 0 0 (cQi below args s D dA o A (rC_goAround) post) (F0 m 46 ls []) := by
  unfold C_goAround_w46 at h
  obtain ⟨⟨hx, hb, hml, hown, hts⟩, hr, hlk, hA⟩ := id C
  refine lv_iload hx hb dX0_goAround_46 (lv_at hl 5 rfl) ?_
  refine lv_iload hx hb dX0_goAround_48 (lv_at hl 3 rfl) ?_
  obtain ⟨h1, h2⟩ := h
  refine lv_icmp_eq (tgt := 60) hx hb dX0_goAround_50 (by decide) (fun c1 => ?_) (fun c1 => ?_)
  · have h := h1 c1
    exact C_goAround_a60 C hT2 hT46 hT81 h (lv_sub hl [0, 1, 2, 3, 4, 5] rfl) w
  · have h := h2 c1
    refine lv_iload hx hb dX0_goAround_53 (lv_at hl 5 rfl) ?_
    refine lv_iload hx hb dX0_goAround_55 (lv_at hl 4 rfl) ?_
    obtain ⟨h1, h2⟩ := h
    refine lv_icmp_ne (tgt := 66) hx hb dX0_goAround_57 (by decide) (fun c1 => ?_) (fun c1 => ?_)
    · have h := h1 c1
      refine lv_iload hx hb dX0_goAround_66 (lv_at hl 5 rfl) ?_
      refine lv_istore (lv' := [(7, .int _), (0, .ref _), (2, .ref _), (3, .int _), (4, .int _), (5, .int _), (6, .int _)]) hx hb dX0_goAround_68 hl (by decide) rfl (fun ls hl => ?_)
      refine lv_iload_n hx hb dX0_goAround_70 rfl (lv_at hl 3 rfl) ?_
      refine lv_istore (lv' := [(8, .int _), (7, .int _), (0, .ref _), (2, .ref _), (3, .int _), (4, .int _), (5, .int _), (6, .int _)]) hx hb dX0_goAround_71 hl (by decide) rfl (fun ls hl => ?_)
      refine lv_iload hx hb dX0_goAround_73 (lv_at hl 5 rfl) ?_
      refine lv_istore (lv' := [(9, .int _), (8, .int _), (7, .int _), (0, .ref _), (2, .ref _), (3, .int _), (4, .int _), (5, .int _), (6, .int _)]) hx hb dX0_goAround_75 hl (by decide) rfl (fun ls hl => ?_)
      refine lv_iload hx hb dX0_goAround_77 (lv_at hl 7 rfl) ?_
      refine lv_istore (lv' := [(10, .int _), (9, .int _), (8, .int _), (7, .int _), (0, .ref _), (2, .ref _), (3, .int _), (4, .int _), (5, .int _), (6, .int _)]) hx hb dX0_goAround_79 hl (by decide) rfl (fun ls hl => ?_)
      exact hT81 _ _ _ _ _ _ _ _ _ _ h _ _ _ (lv_sub hl [4, 5, 6, 7, 8, 9, 3, 2, 1, 0] rfl) w
    · have h := h2 c1
      exact C_goAround_a60 C hT2 hT46 hT81 h (lv_sub hl [0, 1, 2, 3, 4, 5] rfl) w
def C_goAround_w2 (post : Int32 → CS → Prop) (T2 : Int32 → Nat → Int32 → CS → Prop) (T46 : Nat → Int32 → Int32 → Int32 → Int32 → CS → Prop) (T81 : Nat → Int32 → Int32 → Int32 → Int32 → Int32 → Int32 → Int32 → Int32 → CS → Prop) (x1 : Int32) (a2 : Nat) (x3 : Int32) (S : CS) : Prop :=
  (((6 : Int32) ≤ x3 → (vp_in (x1 - x1 / (6 : Int32) * (6 : Int32)) 6 ∧ (vp_in (x1 - x1 / (6 : Int32) * (6 : Int32)) 6 ∧ T46 a2 (x1 / (6 : Int32)) (lowF ((x1 - x1 / (6 : Int32) * (6 : Int32))).toNatClampNeg) (highF ((x1 - x1 / (6 : Int32) * (6 : Int32))).toNatClampNeg) (0 : Int32) S))) ∧ (¬ (6 : Int32) ≤ x3 → (pk S a2 3 ∧ vp_in x3 (kN S a2) ∧ (fun (S1 : CS) => T2 x1 a2 (x3 + (1 : Int32)) S1) (tR S a2 (x3).toNatClampNeg (0 : Int64)))))
set_option maxHeartbeats 4000000 in
set_option maxRecDepth 100000 in
theorem C_goAround_a2 {p : Program} {l : Launch} {e : Env} {s : State} {m : MethodId} {args : Array Value} {below : List Frame} {meth : Method} {c : Code} {D : va_G} {dA : Nat → ClassId} {o : Nat → Nat} {A : Nat → Prop} {post : Int32 → CS → Prop} {T2 : Int32 → Nat → Int32 → CS → Prop} {T46 : Nat → Int32 → Int32 → Int32 → Int32 → CS → Prop} {T81 : Nat → Int32 → Int32 → Int32 → Int32 → Int32 → Int32 → Int32 → Int32 → CS → Prop} (C : cC RX0 p m c cX0_goAround 13 s args meth (Option.some Jvm.ClassFile.FieldType.boolean) A) (hT2 : ∀ (x1 : Int32) (a2 : Nat) (x3 : Int32) (S : CS), T2 x1 a2 x3 S → ∀ (H : Heap) (locs : List Loc) (ls : Array Slot), lv_has ls 13 [(0, .ref (o 0)), (1, .int x1), (2, .ref a2), (3, .int x3)] → cw D dA o A s S H locs → W p l e (rC_goAround) s m args below meth c H locs 0 0 (cQi below args s D dA o A (rC_goAround) post) (F0 m 2 ls [])) (hT46 : ∀ (a2 : Nat) (x3 : Int32) (x4 : Int32) (x5 : Int32) (x6 : Int32) (S : CS), T46 a2 x3 x4 x5 x6 S → ∀ (H : Heap) (locs : List Loc) (ls : Array Slot), lv_has ls 13 [(0, .ref (o 0)), (2, .ref a2), (3, .int x3), (4, .int x4), (5, .int x5), (6, .int x6)] → cw D dA o A s S H locs → W p l e (rC_goAround) s m args below meth c H locs 0 0 (cQi below args s D dA o A (rC_goAround) post) (F0 m 46 ls [])) (hT81 : ∀ (a2 : Nat) (x3 : Int32) (x4 : Int32) (x5 : Int32) (x6 : Int32) (x7 : Int32) (x8 : Int32) (x9 : Int32) (x10 : Int32) (S : CS), T81 a2 x3 x4 x5 x6 x7 x8 x9 x10 S → ∀ (H : Heap) (locs : List Loc) (ls : Array Slot), lv_has ls 13 [(0, .ref (o 0)), (2, .ref a2), (3, .int x3), (4, .int x4), (5, .int x5), (6, .int x6), (7, .int x7), (8, .int x8), (9, .int x9), (10, .int x10)] → cw D dA o A s S H locs → W p l e (rC_goAround) s m args below meth c H locs 0 0 (cQi below args s D dA o A (rC_goAround) post) (F0 m 81 ls [])) {x1 : Int32} {a2 : Nat} {x3 : Int32} {S : CS} (h : C_goAround_w2 post T2 T46 T81 x1 a2 x3 S) {H : Heap} {locs : List Loc} {ls : Array Slot} (hl : lv_has ls 13 [(0, .ref (o 0)), (1, .int x1), (2, .ref a2), (3, .int x3)]) (w : cw D dA o A s S H locs) : W p l e (rC_goAround) s m args below meth c H locs 0 0 (cQi below args s D dA o A (rC_goAround) post) (F0 m 2 ls []) := by
  unfold C_goAround_w2 at h
  obtain ⟨⟨hx, hb, hml, hown, hts⟩, hr, hlk, hA⟩ := id C
  obtain ⟨tL, tH, hZL, hTL, hZH, hTH⟩ := w.2.2.2.2.2
  refine lv_iload_n hx hb dX0_goAround_2 rfl (lv_at hl 3 rfl) ?_
  refine lv_bipush (v := 6) hx hb dX0_goAround_3 (by decide) ?_
  obtain ⟨h1, h2⟩ := h
  refine lv_icmp_ge (tgt := 18) hx hb dX0_goAround_5 (by decide) (fun c1 => ?_) (fun c1 => ?_)
  · have h := h1 c1
    refine lv_iload_n hx hb dX0_goAround_18 rfl (lv_at hl 1 rfl) ?_
    refine lv_bipush (v := 6) hx hb dX0_goAround_19 (by decide) ?_
    refine lv_idiv hx hb dX0_goAround_21 (by decide) ?_
    refine lv_istore_n (lv' := [(3, .int _), (0, .ref _), (1, .int _), (2, .ref _)]) hx hb dX0_goAround_22 rfl hl (by decide) rfl (fun ls hl => ?_)
    refine cr_gets (f := fun j => .int (lowF j)) C w hZL q318 dX0_goAround_23 ?_ -- tL
    refine lv_iload_n hx hb dX0_goAround_26 rfl (lv_at hl 2 rfl) ?_
    refine lv_bipush (v := 6) hx hb dX0_goAround_27 (by decide) ?_
    refine lv_irem hx hb dX0_goAround_29 (by decide) ?_
    obtain ⟨hi, h⟩ := h
    refine cr_sald C w hTL hi dX0_goAround_30 ?_
    refine lv_istore (lv' := [(4, .int _), (3, .int _), (0, .ref _), (1, .int _), (2, .ref _)]) hx hb dX0_goAround_31 hl (by decide) rfl (fun ls hl => ?_)
    refine cr_gets (f := fun j => .int (highF j)) C w hZH q319 dX0_goAround_33 ?_ -- tH
    refine lv_iload_n hx hb dX0_goAround_36 rfl (lv_at hl 3 rfl) ?_
    refine lv_bipush (v := 6) hx hb dX0_goAround_37 (by decide) ?_
    refine lv_irem hx hb dX0_goAround_39 (by decide) ?_
    obtain ⟨hi, h⟩ := h
    refine cr_sald C w hTH hi dX0_goAround_40 ?_
    refine lv_istore (lv' := [(5, .int _), (4, .int _), (3, .int _), (0, .ref _), (1, .int _), (2, .ref _)]) hx hb dX0_goAround_41 hl (by decide) rfl (fun ls hl => ?_)
    refine lv_iconst (v := 0) hx hb dX0_goAround_43 (by decide) ?_
    refine lv_istore (lv' := [(6, .int _), (5, .int _), (4, .int _), (3, .int _), (0, .ref _), (1, .int _), (2, .ref _)]) hx hb dX0_goAround_44 hl (by decide) rfl (fun ls hl => ?_)
    exact hT46 _ _ _ _ _ _ h _ _ _ (lv_sub hl [4, 6, 3, 2, 1, 0] rfl) w
  · have h := h2 c1
    refine lv_aload_n hx hb dX0_goAround_8 rfl (lv_at hl 2 rfl) ?_
    refine lv_iload_n hx hb dX0_goAround_9 rfl (lv_at hl 3 rfl) ?_
    refine lv_lconst (v := 0) hx hb dX0_goAround_10 (by decide) ?_
    obtain ⟨hpk, hi, h⟩ := h
    refine cr_rast C w hpk hi dX0_goAround_11 (fun H locs w => ?_)
    refine lv_iinc (v := _ + (1 : Int32)) (lv' := [(3, .int _), (0, .ref _), (1, .int _), (2, .ref _)]) hx hb dX0_goAround_12 hl (k := 3) rfl rfl (by decide) rfl (fun ls hl => ?_)
    refine lv_goto (tgt := 2) hx hb dX0_goAround_15 (by decide) ?_
    exact hT2 _ _ _ _ h _ _ _ (lv_sub hl [1, 2, 3, 0] rfl) w
def C_goAround_w0 (post : Int32 → CS → Prop) (T2 : Int32 → Nat → Int32 → CS → Prop) (T46 : Nat → Int32 → Int32 → Int32 → Int32 → CS → Prop) (T81 : Nat → Int32 → Int32 → Int32 → Int32 → Int32 → Int32 → Int32 → Int32 → CS → Prop) (x1 : Int32) (a2 : Nat) (S : CS) : Prop :=
  T2 x1 a2 (0 : Int32) S
set_option maxHeartbeats 4000000 in
set_option maxRecDepth 100000 in
theorem C_goAround_a0 {p : Program} {l : Launch} {e : Env} {s : State} {m : MethodId} {args : Array Value} {below : List Frame} {meth : Method} {c : Code} {D : va_G} {dA : Nat → ClassId} {o : Nat → Nat} {A : Nat → Prop} {post : Int32 → CS → Prop} {T2 : Int32 → Nat → Int32 → CS → Prop} {T46 : Nat → Int32 → Int32 → Int32 → Int32 → CS → Prop} {T81 : Nat → Int32 → Int32 → Int32 → Int32 → Int32 → Int32 → Int32 → Int32 → CS → Prop} (C : cC RX0 p m c cX0_goAround 13 s args meth (Option.some Jvm.ClassFile.FieldType.boolean) A) (hT2 : ∀ (x1 : Int32) (a2 : Nat) (x3 : Int32) (S : CS), T2 x1 a2 x3 S → ∀ (H : Heap) (locs : List Loc) (ls : Array Slot), lv_has ls 13 [(0, .ref (o 0)), (1, .int x1), (2, .ref a2), (3, .int x3)] → cw D dA o A s S H locs → W p l e (rC_goAround) s m args below meth c H locs 0 0 (cQi below args s D dA o A (rC_goAround) post) (F0 m 2 ls [])) (hT46 : ∀ (a2 : Nat) (x3 : Int32) (x4 : Int32) (x5 : Int32) (x6 : Int32) (S : CS), T46 a2 x3 x4 x5 x6 S → ∀ (H : Heap) (locs : List Loc) (ls : Array Slot), lv_has ls 13 [(0, .ref (o 0)), (2, .ref a2), (3, .int x3), (4, .int x4), (5, .int x5), (6, .int x6)] → cw D dA o A s S H locs → W p l e (rC_goAround) s m args below meth c H locs 0 0 (cQi below args s D dA o A (rC_goAround) post) (F0 m 46 ls [])) (hT81 : ∀ (a2 : Nat) (x3 : Int32) (x4 : Int32) (x5 : Int32) (x6 : Int32) (x7 : Int32) (x8 : Int32) (x9 : Int32) (x10 : Int32) (S : CS), T81 a2 x3 x4 x5 x6 x7 x8 x9 x10 S → ∀ (H : Heap) (locs : List Loc) (ls : Array Slot), lv_has ls 13 [(0, .ref (o 0)), (2, .ref a2), (3, .int x3), (4, .int x4), (5, .int x5), (6, .int x6), (7, .int x7), (8, .int x8), (9, .int x9), (10, .int x10)] → cw D dA o A s S H locs → W p l e (rC_goAround) s m args below meth c H locs 0 0 (cQi below args s D dA o A (rC_goAround) post) (F0 m 81 ls [])) {x1 : Int32} {a2 : Nat} {S : CS} (h : C_goAround_w0 post T2 T46 T81 x1 a2 S) {H : Heap} {locs : List Loc} {ls : Array Slot} (hl : lv_has ls 13 [(0, .ref (o 0)), (1, .int x1), (2, .ref a2)]) (w : cw D dA o A s S H locs) : W p l e (rC_goAround) s m args below meth c H locs 0 0 (cQi below args s D dA o A (rC_goAround) post) (F0 m 0 ls []) := by
  unfold C_goAround_w0 at h
  obtain ⟨⟨hx, hb, hml, hown, hts⟩, hr, hlk, hA⟩ := id C
  refine lv_iconst (v := 0) hx hb dX0_goAround_0 (by decide) ?_
  refine lv_istore_n (lv' := [(3, .int _), (0, .ref _), (1, .int _), (2, .ref _)]) hx hb dX0_goAround_1 rfl hl (by decide) rfl (fun ls hl => ?_)
  exact hT2 _ _ _ _ h _ _ _ (lv_sub hl [1, 2, 3, 0] rfl) w
def C_goAround_VC (x1 : Int32) (a2 : Nat) (S : CS) (post : Int32 → CS → Prop) : Prop := ∀ (T2 : Int32 → Nat → Int32 → CS → Prop) (T46 : Nat → Int32 → Int32 → Int32 → Int32 → CS → Prop) (T81 : Nat → Int32 → Int32 → Int32 → Int32 → Int32 → Int32 → Int32 → Int32 → CS → Prop), (∀ (x1 : Int32) (a2 : Nat) (x3 : Int32) (S : CS), C_goAround_w2 post T2 T46 T81 x1 a2 x3 S → T2 x1 a2 x3 S) → (∀ (a2 : Nat) (x3 : Int32) (x4 : Int32) (x5 : Int32) (x6 : Int32) (S : CS), C_goAround_w46 post T2 T46 T81 a2 x3 x4 x5 x6 S → T46 a2 x3 x4 x5 x6 S) → (∀ (a2 : Nat) (x3 : Int32) (x4 : Int32) (x5 : Int32) (x6 : Int32) (x7 : Int32) (x8 : Int32) (x9 : Int32) (x10 : Int32) (S : CS), C_goAround_w81 post T2 T46 T81 a2 x3 x4 x5 x6 x7 x8 x9 x10 S → T81 a2 x3 x4 x5 x6 x7 x8 x9 x10 S) → C_goAround_w0 post T2 T46 T81 x1 a2 S
theorem C_goAround_ok {x1 : Int32} {a2 : Nat} {S : CS} {post : Int32 → CS → Prop} (h : C_goAround_VC x1 a2 S post) : C_goAround x1 a2 S post := by
  intro l D dA o sz
  refine cr_start (fun A => va_Qi post (cB D dA o A) A) rfl (Nat.le_of_ble_eq_true rfl) (by decide) ?_
  intro p e s m args below meth c ls A C w hl
  have hl : lv_has ls 13 [(0, .ref (o 0)), (1, .int x1), (2, .ref a2)] := hl
  have h := h (fun (x1 : Int32) (a2 : Nat) (x3 : Int32) S => ∀ (H : Heap) (locs : List Loc) (ls : Array Slot), lv_has ls 13 [(0, .ref (o 0)), (1, .int x1), (2, .ref a2), (3, .int x3)] → cw D dA o A s S H locs → W p l e (rC_goAround) s m args below meth c H locs 0 0 (cQi below args s D dA o A (rC_goAround) post) (F0 m 2 ls [])) (fun (a2 : Nat) (x3 : Int32) (x4 : Int32) (x5 : Int32) (x6 : Int32) S => ∀ (H : Heap) (locs : List Loc) (ls : Array Slot), lv_has ls 13 [(0, .ref (o 0)), (2, .ref a2), (3, .int x3), (4, .int x4), (5, .int x5), (6, .int x6)] → cw D dA o A s S H locs → W p l e (rC_goAround) s m args below meth c H locs 0 0 (cQi below args s D dA o A (rC_goAround) post) (F0 m 46 ls [])) (fun (a2 : Nat) (x3 : Int32) (x4 : Int32) (x5 : Int32) (x6 : Int32) (x7 : Int32) (x8 : Int32) (x9 : Int32) (x10 : Int32) S => ∀ (H : Heap) (locs : List Loc) (ls : Array Slot), lv_has ls 13 [(0, .ref (o 0)), (2, .ref a2), (3, .int x3), (4, .int x4), (5, .int x5), (6, .int x6), (7, .int x7), (8, .int x8), (9, .int x9), (10, .int x10)] → cw D dA o A s S H locs → W p l e (rC_goAround) s m args below meth c H locs 0 0 (cQi below args s D dA o A (rC_goAround) post) (F0 m 81 ls [])) (fun _ _ _ S h H locs ls hl w => C_goAround_a2 C (fun _ _ _ _ h => h) (fun _ _ _ _ _ _ h => h) (fun _ _ _ _ _ _ _ _ _ _ h => h) h hl w) (fun _ _ _ _ _ S h H locs ls hl w => C_goAround_a46 C (fun _ _ _ _ h => h) (fun _ _ _ _ _ _ h => h) (fun _ _ _ _ _ _ _ _ _ _ h => h) h hl w) (fun _ _ _ _ _ _ _ _ _ S h H locs ls hl w => C_goAround_a81 C (fun _ _ _ _ h => h) (fun _ _ _ _ _ _ h => h) (fun _ _ _ _ _ _ _ _ _ _ h => h) h hl w)
  exact C_goAround_a0 C (fun _ _ _ _ h => h) (fun _ _ _ _ _ _ h => h) (fun _ _ _ _ _ _ _ _ _ _ h => h) h (lv_sub hl [0, 1, 2] rfl) w
