/-! ThirdSheets$Sort.<init>, for each kind of it; fields: each, paint, many, this$0 -/
def rC_sinit : Room := { frames := 1, cells := 1, slots := 36, locals := 12 }
set_option maxHeartbeats 40000000 in
set_option maxRecDepth 100000 in
theorem C_sinit2 (l : Launch) (D : va_G) (dA : Nat → ClassId) (h h1 sz : Nat) (v3 : Value) : Met l yX1_init (ws_ yX1_init cX1_init 3 none) rC_sinit (va_Pc [.ref h, .ref h1, .int 4] (fun U => U.heap.size = sz ∧ va_P D vwCl [(h, .inr (2, [.int 0, .null, .int 0, v3]))] U.heap ∧ va_K D vwCl (cT dA) U ∧ va_D (fun _ => True) [(h, .inr (2, [.int 0, .null, .int 0, v3]))])) (va_Qv (fun _ : Nat => True) (fun q t => va_P D vwCl [(h, .inr (2, [.int 4, .ref q, .int 0, .ref h1])), (q, .inl (dA 0, 12, .inl (fun _ => 0)))] t.heap ∧ va_K D vwCl (cT dA) t ∧ va_D (va_A [(h, .inr (2, [.int 0, .null, .int 0, v3]))] sz) [(h, .inr (2, [.int 4, .ref q, .int 0, .ref h1])), (q, .inl (dA 0, 12, .inl (fun _ => 0)))]) (va_A [(h, .inr (2, [.int 0, .null, .int 0, v3]))] sz)) 1 36 (va_A [(h, .inr (2, [.int 0, .null, .int 0, v3]))] sz) := by
  refine Met.ofW (cc := cX1_init) (maxL := 3) (ret := none) (by decide) rfl ?_
  intro p e s m args below meth c s₁ B hml hv
  obtain ⟨rfl, hsz, hP, hK, hD0⟩ := hv
  have hx := B.exec
  have hb := B.bytes
  have hr := B.returns
  have hts := atoms_spec (ws := ws_ yX1_init cX1_init 3 none) B.pre
  have hts : ∀ w ∈ lw_all, w.before _ s = true := fun w h => hts w (List.mem_cons_of_mem _ h)
  have hown : s.vm.findClass RX1 = some m.cls := findClass_of_methodNamed B.named
  have hlocks := B.notSynchronized
  have hin : meth.name = "<init>" := (name_of_methodNamed B.named B.method).1
  subst hsz
  have hD := hD0.self (sz := s.heap.size)
  generalize hAe : va_A [(h, .inr (2, [.int 0, .null, .int 0, v3]))] s.heap.size = A at hD ⊢
  have hA : ∀ q : Nat, s.heap.size ≤ q → A q := fun q h => by rw [← hAe]; exact Or.inr h
  have hS : va_S A s.heap s.heap [] := va_S.rf
  have hl := lv_entry ([.ref h, .ref h1, .int 4]) (n := 3) (Nat.le_of_ble_eq_true rfl)
  rw [lg_entry_eq]
  generalize (lg_sl ([.ref h, .ref h1, .int 4]) ++ List.replicate (3 - (lg_sl ([.ref h, .ref h1, .int 4])).length) Slot.unset).toArray = ls at hl ⊢
  have hl : lv_has ls 3 [(0, .ref h), (1, .ref h1), (2, .int 4)] := hl
  refine lv_aload_n hx hb dX1_init_0 rfl (lv_at hl 0 rfl) ?_
  refine lv_aload_n hx hb dX1_init_1 rfl (lv_at hl 1 rfl) ?_
  refine va_putF (D := D) (ci := 2) (C := RX2) (T := TX2) (N := 4) (ty := .object "ThirdSheets") hx hb hts in_X2' tyX2 tyX2_ok' nmX2' hown hK hP hD hS 0 rfl rfl 3 (by decide) (hts _ q118) (fun _ h9 => h9) rfl hin rfl (by decide +kernel) rfl rfl (Nat.le_of_ble_eq_true rfl) dX1_init_2 (fun H locs hP hD hS => ?_)
  have hP : va_P D vwCl [(h, .inr (2, [.int 0, .null, .int 0, .ref h1]))] H := hP
  have hD : va_D A [(h, .inr (2, [.int 0, .null, .int 0, .ref h1]))] := hD
  refine lv_aload_n hx hb dX1_init_5 rfl (lv_at hl 0 rfl) ?_
  refine W.objInit hx hb hown (hts _ q111) (hts _ q98) (hts _ q99) rfl (by rw [hml]; exact hl.1) rfl dX1_init_6 (Nat.le_of_ble_eq_true rfl) (Nat.le_of_ble_eq_true rfl) ?_
  refine W.eq (g2 := F0 m 9 ls []) rfl ?_
  refine lv_aload_n hx hb dX1_init_9 rfl (lv_at hl 0 rfl) ?_
  refine lv_iload_n hx hb dX1_init_10 rfl (lv_at hl 2 rfl) ?_
  refine va_putF (D := D) (ci := 2) (C := RX2) (T := TX2) (N := 4) (ty := .int) hx hb hts in_X2' tyX2 tyX2_ok' nmX2' hown hK hP hD hS 0 rfl rfl 0 (by decide) (hts _ q113) (fun _ h9 => h9) rfl hin rfl (by decide +kernel) rfl rfl (Nat.le_of_ble_eq_true rfl) dX1_init_11 (fun H locs hP hD hS => ?_)
  have hP : va_P D vwCl [(h, .inr (2, [.int 4, .null, .int 0, .ref h1]))] H := hP
  have hD : va_D A [(h, .inr (2, [.int 4, .null, .int 0, .ref h1]))] := hD
  refine lv_aload_n hx hb dX1_init_14 rfl (lv_at hl 0 rfl) ?_
  refine lv_iconst (v := 3) hx hb dX1_init_15 (by decide) ?_
  refine lv_iload_n hx hb dX1_init_16 rfl (lv_at hl 2 rfl) ?_
  refine lv_imul hx hb dX1_init_17 ?_
  refine va_newa (atype := .int) (a0 := (12, .inl (fun _ => 0))) (N' := 12) hx hb (hts _ q130) rfl hK hP hD hS hA (fun cA => rfl) (by decide) (by decide +kernel) (by show _ * _ ≤ _; decide) (Nat.le_of_ble_eq_true rfl) (Nat.le_of_ble_eq_true rfl) dX1_init_18 (fun q cA H hK2 hP hD hS => ?_)
  have e1 : cA = dA 0 := Option.some.inj (((hK2.2 6 _ rfl).2).symm.trans (hK.2 0 _ rfl).2)
  subst e1
  clear hK2
  have hP : va_P D vwCl [(h, .inr (2, [.int 4, .null, .int 0, .ref h1])), (q, .inl (dA 0, 12, .inl (fun _ => 0)))] H := hP
  have hD : va_D A [(h, .inr (2, [.int 4, .null, .int 0, .ref h1])), (q, .inl (dA 0, 12, .inl (fun _ => 0)))] := hD
  refine va_putF (D := D) (ci := 2) (C := RX2) (T := TX2) (N := 4) (ty := .array .int) hx hb hts in_X2' tyX2 tyX2_ok' nmX2' hown hK hP hD hS 0 rfl rfl 1 (by decide) (hts _ q114) (fun _ h9 => h9) rfl hin rfl (by decide +kernel) rfl rfl (Nat.le_of_ble_eq_true rfl) dX1_init_20 (fun H locs hP hD hS => ?_)
  have hP : va_P D vwCl [(h, .inr (2, [.int 4, .ref q, .int 0, .ref h1])), (q, .inl (dA 0, 12, .inl (fun _ => 0)))] H := hP
  have hD : va_D A [(h, .inr (2, [.int 4, .ref q, .int 0, .ref h1])), (q, .inl (dA 0, 12, .inl (fun _ => 0)))] := hD
  refine W.widen (k := 1) (n := 36) (Nat.le_of_ble_eq_true rfl) (Nat.le_of_ble_eq_true rfl) ?_
  exact W.vret hx hb hr (fun t ht hW => ⟨⟨q, rfl, trivial, by rw [ht]; exact hP, va_K.moved hW.alike hK, hD⟩, hS.F ht⟩) hS.2.2 dX1_init_23
set_option maxHeartbeats 40000000 in
set_option maxRecDepth 100000 in
theorem C_sinit3 (l : Launch) (D : va_G) (dA : Nat → ClassId) (h h1 sz : Nat) (v3 : Value) : Met l yX1_init (ws_ yX1_init cX1_init 3 none) rC_sinit (va_Pc [.ref h, .ref h1, .int 6] (fun U => U.heap.size = sz ∧ va_P D vwCl [(h, .inr (3, [.int 0, .null, .int 0, v3]))] U.heap ∧ va_K D vwCl (cT dA) U ∧ va_D (fun _ => True) [(h, .inr (3, [.int 0, .null, .int 0, v3]))])) (va_Qv (fun _ : Nat => True) (fun q t => va_P D vwCl [(h, .inr (3, [.int 6, .ref q, .int 0, .ref h1])), (q, .inl (dA 0, 18, .inl (fun _ => 0)))] t.heap ∧ va_K D vwCl (cT dA) t ∧ va_D (va_A [(h, .inr (3, [.int 0, .null, .int 0, v3]))] sz) [(h, .inr (3, [.int 6, .ref q, .int 0, .ref h1])), (q, .inl (dA 0, 18, .inl (fun _ => 0)))]) (va_A [(h, .inr (3, [.int 0, .null, .int 0, v3]))] sz)) 1 36 (va_A [(h, .inr (3, [.int 0, .null, .int 0, v3]))] sz) := by
  refine Met.ofW (cc := cX1_init) (maxL := 3) (ret := none) (by decide) rfl ?_
  intro p e s m args below meth c s₁ B hml hv
  obtain ⟨rfl, hsz, hP, hK, hD0⟩ := hv
  have hx := B.exec
  have hb := B.bytes
  have hr := B.returns
  have hts := atoms_spec (ws := ws_ yX1_init cX1_init 3 none) B.pre
  have hts : ∀ w ∈ lw_all, w.before _ s = true := fun w h => hts w (List.mem_cons_of_mem _ h)
  have hown : s.vm.findClass RX1 = some m.cls := findClass_of_methodNamed B.named
  have hlocks := B.notSynchronized
  have hin : meth.name = "<init>" := (name_of_methodNamed B.named B.method).1
  subst hsz
  have hD := hD0.self (sz := s.heap.size)
  generalize hAe : va_A [(h, .inr (3, [.int 0, .null, .int 0, v3]))] s.heap.size = A at hD ⊢
  have hA : ∀ q : Nat, s.heap.size ≤ q → A q := fun q h => by rw [← hAe]; exact Or.inr h
  have hS : va_S A s.heap s.heap [] := va_S.rf
  have hl := lv_entry ([.ref h, .ref h1, .int 6]) (n := 3) (Nat.le_of_ble_eq_true rfl)
  rw [lg_entry_eq]
  generalize (lg_sl ([.ref h, .ref h1, .int 6]) ++ List.replicate (3 - (lg_sl ([.ref h, .ref h1, .int 6])).length) Slot.unset).toArray = ls at hl ⊢
  have hl : lv_has ls 3 [(0, .ref h), (1, .ref h1), (2, .int 6)] := hl
  refine lv_aload_n hx hb dX1_init_0 rfl (lv_at hl 0 rfl) ?_
  refine lv_aload_n hx hb dX1_init_1 rfl (lv_at hl 1 rfl) ?_
  refine va_putF (D := D) (ci := 3) (C := RX3) (T := TX3) (N := 4) (ty := .object "ThirdSheets") hx hb hts in_X3' tyX3 tyX3_ok' nmX3' hown hK hP hD hS 0 rfl rfl 3 (by decide) (hts _ q118) (fun _ h9 => h9) rfl hin rfl (by decide +kernel) rfl rfl (Nat.le_of_ble_eq_true rfl) dX1_init_2 (fun H locs hP hD hS => ?_)
  have hP : va_P D vwCl [(h, .inr (3, [.int 0, .null, .int 0, .ref h1]))] H := hP
  have hD : va_D A [(h, .inr (3, [.int 0, .null, .int 0, .ref h1]))] := hD
  refine lv_aload_n hx hb dX1_init_5 rfl (lv_at hl 0 rfl) ?_
  refine W.objInit hx hb hown (hts _ q111) (hts _ q98) (hts _ q99) rfl (by rw [hml]; exact hl.1) rfl dX1_init_6 (Nat.le_of_ble_eq_true rfl) (Nat.le_of_ble_eq_true rfl) ?_
  refine W.eq (g2 := F0 m 9 ls []) rfl ?_
  refine lv_aload_n hx hb dX1_init_9 rfl (lv_at hl 0 rfl) ?_
  refine lv_iload_n hx hb dX1_init_10 rfl (lv_at hl 2 rfl) ?_
  refine va_putF (D := D) (ci := 3) (C := RX3) (T := TX3) (N := 4) (ty := .int) hx hb hts in_X3' tyX3 tyX3_ok' nmX3' hown hK hP hD hS 0 rfl rfl 0 (by decide) (hts _ q113) (fun _ h9 => h9) rfl hin rfl (by decide +kernel) rfl rfl (Nat.le_of_ble_eq_true rfl) dX1_init_11 (fun H locs hP hD hS => ?_)
  have hP : va_P D vwCl [(h, .inr (3, [.int 6, .null, .int 0, .ref h1]))] H := hP
  have hD : va_D A [(h, .inr (3, [.int 6, .null, .int 0, .ref h1]))] := hD
  refine lv_aload_n hx hb dX1_init_14 rfl (lv_at hl 0 rfl) ?_
  refine lv_iconst (v := 3) hx hb dX1_init_15 (by decide) ?_
  refine lv_iload_n hx hb dX1_init_16 rfl (lv_at hl 2 rfl) ?_
  refine lv_imul hx hb dX1_init_17 ?_
  refine va_newa (atype := .int) (a0 := (18, .inl (fun _ => 0))) (N' := 18) hx hb (hts _ q130) rfl hK hP hD hS hA (fun cA => rfl) (by decide) (by decide +kernel) (by show _ * _ ≤ _; decide) (Nat.le_of_ble_eq_true rfl) (Nat.le_of_ble_eq_true rfl) dX1_init_18 (fun q cA H hK2 hP hD hS => ?_)
  have e1 : cA = dA 0 := Option.some.inj (((hK2.2 6 _ rfl).2).symm.trans (hK.2 0 _ rfl).2)
  subst e1
  clear hK2
  have hP : va_P D vwCl [(h, .inr (3, [.int 6, .null, .int 0, .ref h1])), (q, .inl (dA 0, 18, .inl (fun _ => 0)))] H := hP
  have hD : va_D A [(h, .inr (3, [.int 6, .null, .int 0, .ref h1])), (q, .inl (dA 0, 18, .inl (fun _ => 0)))] := hD
  refine va_putF (D := D) (ci := 3) (C := RX3) (T := TX3) (N := 4) (ty := .array .int) hx hb hts in_X3' tyX3 tyX3_ok' nmX3' hown hK hP hD hS 0 rfl rfl 1 (by decide) (hts _ q114) (fun _ h9 => h9) rfl hin rfl (by decide +kernel) rfl rfl (Nat.le_of_ble_eq_true rfl) dX1_init_20 (fun H locs hP hD hS => ?_)
  have hP : va_P D vwCl [(h, .inr (3, [.int 6, .ref q, .int 0, .ref h1])), (q, .inl (dA 0, 18, .inl (fun _ => 0)))] H := hP
  have hD : va_D A [(h, .inr (3, [.int 6, .ref q, .int 0, .ref h1])), (q, .inl (dA 0, 18, .inl (fun _ => 0)))] := hD
  refine W.widen (k := 1) (n := 36) (Nat.le_of_ble_eq_true rfl) (Nat.le_of_ble_eq_true rfl) ?_
  exact W.vret hx hb hr (fun t ht hW => ⟨⟨q, rfl, trivial, by rw [ht]; exact hP, va_K.moved hW.alike hK, hD⟩, hS.F ht⟩) hS.2.2 dX1_init_23
set_option maxHeartbeats 40000000 in
set_option maxRecDepth 100000 in
theorem C_sinit4 (l : Launch) (D : va_G) (dA : Nat → ClassId) (h h1 sz : Nat) (v3 : Value) : Met l yX1_init (ws_ yX1_init cX1_init 3 none) rC_sinit (va_Pc [.ref h, .ref h1, .int 12] (fun U => U.heap.size = sz ∧ va_P D vwCl [(h, .inr (4, [.int 0, .null, .int 0, v3]))] U.heap ∧ va_K D vwCl (cT dA) U ∧ va_D (fun _ => True) [(h, .inr (4, [.int 0, .null, .int 0, v3]))])) (va_Qv (fun _ : Nat => True) (fun q t => va_P D vwCl [(h, .inr (4, [.int 12, .ref q, .int 0, .ref h1])), (q, .inl (dA 0, 36, .inl (fun _ => 0)))] t.heap ∧ va_K D vwCl (cT dA) t ∧ va_D (va_A [(h, .inr (4, [.int 0, .null, .int 0, v3]))] sz) [(h, .inr (4, [.int 12, .ref q, .int 0, .ref h1])), (q, .inl (dA 0, 36, .inl (fun _ => 0)))]) (va_A [(h, .inr (4, [.int 0, .null, .int 0, v3]))] sz)) 1 36 (va_A [(h, .inr (4, [.int 0, .null, .int 0, v3]))] sz) := by
  refine Met.ofW (cc := cX1_init) (maxL := 3) (ret := none) (by decide) rfl ?_
  intro p e s m args below meth c s₁ B hml hv
  obtain ⟨rfl, hsz, hP, hK, hD0⟩ := hv
  have hx := B.exec
  have hb := B.bytes
  have hr := B.returns
  have hts := atoms_spec (ws := ws_ yX1_init cX1_init 3 none) B.pre
  have hts : ∀ w ∈ lw_all, w.before _ s = true := fun w h => hts w (List.mem_cons_of_mem _ h)
  have hown : s.vm.findClass RX1 = some m.cls := findClass_of_methodNamed B.named
  have hlocks := B.notSynchronized
  have hin : meth.name = "<init>" := (name_of_methodNamed B.named B.method).1
  subst hsz
  have hD := hD0.self (sz := s.heap.size)
  generalize hAe : va_A [(h, .inr (4, [.int 0, .null, .int 0, v3]))] s.heap.size = A at hD ⊢
  have hA : ∀ q : Nat, s.heap.size ≤ q → A q := fun q h => by rw [← hAe]; exact Or.inr h
  have hS : va_S A s.heap s.heap [] := va_S.rf
  have hl := lv_entry ([.ref h, .ref h1, .int 12]) (n := 3) (Nat.le_of_ble_eq_true rfl)
  rw [lg_entry_eq]
  generalize (lg_sl ([.ref h, .ref h1, .int 12]) ++ List.replicate (3 - (lg_sl ([.ref h, .ref h1, .int 12])).length) Slot.unset).toArray = ls at hl ⊢
  have hl : lv_has ls 3 [(0, .ref h), (1, .ref h1), (2, .int 12)] := hl
  refine lv_aload_n hx hb dX1_init_0 rfl (lv_at hl 0 rfl) ?_
  refine lv_aload_n hx hb dX1_init_1 rfl (lv_at hl 1 rfl) ?_
  refine va_putF (D := D) (ci := 4) (C := RX4) (T := TX4) (N := 4) (ty := .object "ThirdSheets") hx hb hts in_X4' tyX4 tyX4_ok' nmX4' hown hK hP hD hS 0 rfl rfl 3 (by decide) (hts _ q118) (fun _ h9 => h9) rfl hin rfl (by decide +kernel) rfl rfl (Nat.le_of_ble_eq_true rfl) dX1_init_2 (fun H locs hP hD hS => ?_)
  have hP : va_P D vwCl [(h, .inr (4, [.int 0, .null, .int 0, .ref h1]))] H := hP
  have hD : va_D A [(h, .inr (4, [.int 0, .null, .int 0, .ref h1]))] := hD
  refine lv_aload_n hx hb dX1_init_5 rfl (lv_at hl 0 rfl) ?_
  refine W.objInit hx hb hown (hts _ q111) (hts _ q98) (hts _ q99) rfl (by rw [hml]; exact hl.1) rfl dX1_init_6 (Nat.le_of_ble_eq_true rfl) (Nat.le_of_ble_eq_true rfl) ?_
  refine W.eq (g2 := F0 m 9 ls []) rfl ?_
  refine lv_aload_n hx hb dX1_init_9 rfl (lv_at hl 0 rfl) ?_
  refine lv_iload_n hx hb dX1_init_10 rfl (lv_at hl 2 rfl) ?_
  refine va_putF (D := D) (ci := 4) (C := RX4) (T := TX4) (N := 4) (ty := .int) hx hb hts in_X4' tyX4 tyX4_ok' nmX4' hown hK hP hD hS 0 rfl rfl 0 (by decide) (hts _ q113) (fun _ h9 => h9) rfl hin rfl (by decide +kernel) rfl rfl (Nat.le_of_ble_eq_true rfl) dX1_init_11 (fun H locs hP hD hS => ?_)
  have hP : va_P D vwCl [(h, .inr (4, [.int 12, .null, .int 0, .ref h1]))] H := hP
  have hD : va_D A [(h, .inr (4, [.int 12, .null, .int 0, .ref h1]))] := hD
  refine lv_aload_n hx hb dX1_init_14 rfl (lv_at hl 0 rfl) ?_
  refine lv_iconst (v := 3) hx hb dX1_init_15 (by decide) ?_
  refine lv_iload_n hx hb dX1_init_16 rfl (lv_at hl 2 rfl) ?_
  refine lv_imul hx hb dX1_init_17 ?_
  refine va_newa (atype := .int) (a0 := (36, .inl (fun _ => 0))) (N' := 36) hx hb (hts _ q130) rfl hK hP hD hS hA (fun cA => rfl) (by decide) (by decide +kernel) (by show _ * _ ≤ _; decide) (Nat.le_of_ble_eq_true rfl) (Nat.le_of_ble_eq_true rfl) dX1_init_18 (fun q cA H hK2 hP hD hS => ?_)
  have e1 : cA = dA 0 := Option.some.inj (((hK2.2 6 _ rfl).2).symm.trans (hK.2 0 _ rfl).2)
  subst e1
  clear hK2
  have hP : va_P D vwCl [(h, .inr (4, [.int 12, .null, .int 0, .ref h1])), (q, .inl (dA 0, 36, .inl (fun _ => 0)))] H := hP
  have hD : va_D A [(h, .inr (4, [.int 12, .null, .int 0, .ref h1])), (q, .inl (dA 0, 36, .inl (fun _ => 0)))] := hD
  refine va_putF (D := D) (ci := 4) (C := RX4) (T := TX4) (N := 4) (ty := .array .int) hx hb hts in_X4' tyX4 tyX4_ok' nmX4' hown hK hP hD hS 0 rfl rfl 1 (by decide) (hts _ q114) (fun _ h9 => h9) rfl hin rfl (by decide +kernel) rfl rfl (Nat.le_of_ble_eq_true rfl) dX1_init_20 (fun H locs hP hD hS => ?_)
  have hP : va_P D vwCl [(h, .inr (4, [.int 12, .ref q, .int 0, .ref h1])), (q, .inl (dA 0, 36, .inl (fun _ => 0)))] H := hP
  have hD : va_D A [(h, .inr (4, [.int 12, .ref q, .int 0, .ref h1])), (q, .inl (dA 0, 36, .inl (fun _ => 0)))] := hD
  refine W.widen (k := 1) (n := 36) (Nat.le_of_ble_eq_true rfl) (Nat.le_of_ble_eq_true rfl) ?_
  exact W.vret hx hb hr (fun t ht hW => ⟨⟨q, rfl, trivial, by rw [ht]; exact hP, va_K.moved hW.alike hK, hD⟩, hS.F ht⟩) hS.2.2 dX1_init_23
