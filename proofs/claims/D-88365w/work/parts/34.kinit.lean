/-! the constructors of the three sorts -/
def rC_kinit : Room := { frames := 2, cells := 1, slots := 36, locals := 34 }
set_option maxHeartbeats 40000000 in
set_option maxRecDepth 100000 in
theorem C_kinit2 (l : Launch) (D : va_G) (dA : Nat → ClassId) (h h1 sz : Nat) : Met l yX2_init (ws_ yX2_init cX2_init 2 none) rC_kinit (va_Pc [.ref h, .ref h1] (fun U => U.heap.size = sz ∧ va_P D vwCl [(h, .inr (6, [.int 0, .null, .int 0, .null, .null]))] U.heap ∧ va_K D vwCl (cT dA) U ∧ va_D (fun _ => True) [(h, .inr (6, [.int 0, .null, .int 0, .null, .null]))])) (va_Qv (fun _ : Nat => True) (fun q t => va_P D vwCl [(h, .inr (2, [.int 4, .ref q, .int 0, .ref h1])), (q, .inl (dA 0, 12, .inl (fun _ => 0)))] t.heap ∧ va_K D vwCl (cT dA) t ∧ va_D (va_A [(h, .inr (6, [.int 0, .null, .int 0, .null, .null]))] sz) [(h, .inr (2, [.int 4, .ref q, .int 0, .ref h1])), (q, .inl (dA 0, 12, .inl (fun _ => 0)))]) (va_A [(h, .inr (6, [.int 0, .null, .int 0, .null, .null]))] sz)) 1 36 (va_A [(h, .inr (6, [.int 0, .null, .int 0, .null, .null]))] sz) := by
  refine Met.ofW (cc := cX2_init) (maxL := 2) (ret := none) (by decide) rfl ?_
  intro p e s m args below meth c s₁ B hml hv
  obtain ⟨rfl, hsz, hP, hK, hD0⟩ := hv
  have hx := B.exec
  have hb := B.bytes
  have hr := B.returns
  have hts := atoms_spec (ws := ws_ yX2_init cX2_init 2 none) B.pre
  have hts : ∀ w ∈ lw_all, w.before _ s = true := fun w h => hts w (List.mem_cons_of_mem _ h)
  have hown : s.vm.findClass RX2 = some m.cls := findClass_of_methodNamed B.named
  have hlocks := B.notSynchronized
  have hin : meth.name = "<init>" := (name_of_methodNamed B.named B.method).1
  subst hsz
  have hD := hD0.self (sz := s.heap.size)
  generalize hAe : va_A [(h, .inr (6, [.int 0, .null, .int 0, .null, .null]))] s.heap.size = A at hD ⊢
  have hA : ∀ q : Nat, s.heap.size ≤ q → A q := fun q h => by rw [← hAe]; exact Or.inr h
  have hS : va_S A s.heap s.heap [] := va_S.rf
  have hl := lv_entry ([.ref h, .ref h1]) (n := 2) (Nat.le_of_ble_eq_true rfl)
  rw [lg_entry_eq]
  generalize (lg_sl ([.ref h, .ref h1]) ++ List.replicate (2 - (lg_sl ([.ref h, .ref h1])).length) Slot.unset).toArray = ls at hl ⊢
  have hl : lv_has ls 2 [(0, .ref h), (1, .ref h1)] := hl
  refine lv_aload_n hx hb dX2_init_0 rfl (lv_at hl 0 rfl) ?_
  refine lv_aload_n hx hb dX2_init_1 rfl (lv_at hl 1 rfl) ?_
  refine cr_put5 (own := RX2) (T := TX2) (c5 := 6) (c4 := 2) (ty := .object "ThirdSheets") hx hb hts in_X2 tyX2 tyX2_ok (by decide +kernel) hown hK hP hD hS 0 rfl rfl rfl (hts _ q112) rfl hin rfl (by decide +kernel) rfl rfl dX2_init_2 (fun H locs v3 hP hD hS => ?_)
  have hP : va_P D vwCl [(h, .inr (2, [.int 0, .null, .int 0, v3]))] H := hP
  have hD : va_D A [(h, .inr (2, [.int 0, .null, .int 0, v3]))] := hD
  refine lv_aload_n hx hb dX2_init_5 rfl (lv_at hl 0 rfl) ?_
  refine lv_aload_n hx hb dX2_init_6 rfl (lv_at hl 1 rfl) ?_
  refine lv_iconst (v := 4) hx hb dX2_init_7 (by decide) ?_
  have hFc := va_free (wc := [(h, .inr (2, [.int 0, .null, .int 0, v3]))]) hD hS hA [0] rfl
  refine va_callv (va_runI (As := [.ref h1, .int 4]) (rest := []) ⟨hx, hb, hml, hown, hts⟩ (C_sinit2 l D dA h h1 H.size v3) (cwI 2 hts (lw_meth q110) rfl rfl rfl (hts _ q83) (hts _ q108) (hts _ q109) rfl (by decide +kernel) ⟨Nat.le_of_ble_eq_true rfl, Nat.le_of_ble_eq_true rfl⟩) ⟨fun a U g mk q => by obtain ⟨q0, q1, qP, qK, qD⟩ := q; exact ⟨q0, q1, qP, va_K.moved (u := U) (U := U.calling g mk a) (Vm.Alike.refl U.vm) qK, qD⟩, fun U hU hW => ⟨rfl, by rw [hU], by rw [hU]; exact hP, va_K.moved hW.alike hK, hD.weaken (fun _ _ _ _ => trivial)⟩⟩ rfl rfl hl.1 rfl (lv_room (Nat.le_of_ble_eq_true rfl)) dX2_init_8 ⟨Nat.le_of_ble_eq_true rfl, Nat.le_of_ble_eq_true rfl⟩) hS (fun q _ h => hFc q h) hFc (fun q t H1 locs1 ht hvm hw hB hz hk hS => ?_)
  obtain ⟨hP1, hK1, hD1⟩ := hB
  rw [ht] at hP1
  refine W.widen (k := 1) (n := 36) (Nat.le_of_ble_eq_true rfl) (Nat.le_of_ble_eq_true rfl) ?_
  exact W.vret hx hb hr (fun t ht hW => ⟨⟨q, rfl, trivial, by rw [ht]; exact hP1, va_K.moved hW.alike hK, hD1.weaken (fun _ _ _ h => hFc _ h)⟩, hS.F ht⟩) hS.2.2 dX2_init_11
set_option maxHeartbeats 40000000 in
set_option maxRecDepth 100000 in
theorem C_kinit3 (l : Launch) (D : va_G) (dA : Nat → ClassId) (h h1 sz : Nat) : Met l yX3_init (ws_ yX3_init cX3_init 2 none) rC_kinit (va_Pc [.ref h, .ref h1] (fun U => U.heap.size = sz ∧ va_P D vwCl [(h, .inr (7, [.int 0, .null, .int 0, .null, .null]))] U.heap ∧ va_K D vwCl (cT dA) U ∧ va_D (fun _ => True) [(h, .inr (7, [.int 0, .null, .int 0, .null, .null]))])) (va_Qv (fun _ : Nat => True) (fun q t => va_P D vwCl [(h, .inr (3, [.int 6, .ref q, .int 0, .ref h1])), (q, .inl (dA 0, 18, .inl (fun _ => 0)))] t.heap ∧ va_K D vwCl (cT dA) t ∧ va_D (va_A [(h, .inr (7, [.int 0, .null, .int 0, .null, .null]))] sz) [(h, .inr (3, [.int 6, .ref q, .int 0, .ref h1])), (q, .inl (dA 0, 18, .inl (fun _ => 0)))]) (va_A [(h, .inr (7, [.int 0, .null, .int 0, .null, .null]))] sz)) 1 36 (va_A [(h, .inr (7, [.int 0, .null, .int 0, .null, .null]))] sz) := by
  refine Met.ofW (cc := cX3_init) (maxL := 2) (ret := none) (by decide) rfl ?_
  intro p e s m args below meth c s₁ B hml hv
  obtain ⟨rfl, hsz, hP, hK, hD0⟩ := hv
  have hx := B.exec
  have hb := B.bytes
  have hr := B.returns
  have hts := atoms_spec (ws := ws_ yX3_init cX3_init 2 none) B.pre
  have hts : ∀ w ∈ lw_all, w.before _ s = true := fun w h => hts w (List.mem_cons_of_mem _ h)
  have hown : s.vm.findClass RX3 = some m.cls := findClass_of_methodNamed B.named
  have hlocks := B.notSynchronized
  have hin : meth.name = "<init>" := (name_of_methodNamed B.named B.method).1
  subst hsz
  have hD := hD0.self (sz := s.heap.size)
  generalize hAe : va_A [(h, .inr (7, [.int 0, .null, .int 0, .null, .null]))] s.heap.size = A at hD ⊢
  have hA : ∀ q : Nat, s.heap.size ≤ q → A q := fun q h => by rw [← hAe]; exact Or.inr h
  have hS : va_S A s.heap s.heap [] := va_S.rf
  have hl := lv_entry ([.ref h, .ref h1]) (n := 2) (Nat.le_of_ble_eq_true rfl)
  rw [lg_entry_eq]
  generalize (lg_sl ([.ref h, .ref h1]) ++ List.replicate (2 - (lg_sl ([.ref h, .ref h1])).length) Slot.unset).toArray = ls at hl ⊢
  have hl : lv_has ls 2 [(0, .ref h), (1, .ref h1)] := hl
  refine lv_aload_n hx hb dX3_init_0 rfl (lv_at hl 0 rfl) ?_
  refine lv_aload_n hx hb dX3_init_1 rfl (lv_at hl 1 rfl) ?_
  refine cr_put5 (own := RX3) (T := TX3) (c5 := 7) (c4 := 3) (ty := .object "ThirdSheets") hx hb hts in_X3 tyX3 tyX3_ok (by decide +kernel) hown hK hP hD hS 0 rfl rfl rfl (hts _ q137) rfl hin rfl (by decide +kernel) rfl rfl dX3_init_2 (fun H locs v3 hP hD hS => ?_)
  have hP : va_P D vwCl [(h, .inr (3, [.int 0, .null, .int 0, v3]))] H := hP
  have hD : va_D A [(h, .inr (3, [.int 0, .null, .int 0, v3]))] := hD
  refine lv_aload_n hx hb dX3_init_5 rfl (lv_at hl 0 rfl) ?_
  refine lv_aload_n hx hb dX3_init_6 rfl (lv_at hl 1 rfl) ?_
  refine lv_bipush (v := 6) hx hb dX3_init_7 (by decide) ?_
  have hFc := va_free (wc := [(h, .inr (3, [.int 0, .null, .int 0, v3]))]) hD hS hA [0] rfl
  refine va_callv (va_runI (As := [.ref h1, .int 6]) (rest := []) ⟨hx, hb, hml, hown, hts⟩ (C_sinit3 l D dA h h1 H.size v3) (cwI 2 hts (lw_meth q110) rfl rfl rfl (hts _ q83) (hts _ q136) (hts _ q109) rfl (by decide +kernel) ⟨Nat.le_of_ble_eq_true rfl, Nat.le_of_ble_eq_true rfl⟩) ⟨fun a U g mk q => by obtain ⟨q0, q1, qP, qK, qD⟩ := q; exact ⟨q0, q1, qP, va_K.moved (u := U) (U := U.calling g mk a) (Vm.Alike.refl U.vm) qK, qD⟩, fun U hU hW => ⟨rfl, by rw [hU], by rw [hU]; exact hP, va_K.moved hW.alike hK, hD.weaken (fun _ _ _ _ => trivial)⟩⟩ rfl rfl hl.1 rfl (lv_room (Nat.le_of_ble_eq_true rfl)) dX3_init_9 ⟨Nat.le_of_ble_eq_true rfl, Nat.le_of_ble_eq_true rfl⟩) hS (fun q _ h => hFc q h) hFc (fun q t H1 locs1 ht hvm hw hB hz hk hS => ?_)
  obtain ⟨hP1, hK1, hD1⟩ := hB
  rw [ht] at hP1
  refine W.widen (k := 1) (n := 36) (Nat.le_of_ble_eq_true rfl) (Nat.le_of_ble_eq_true rfl) ?_
  exact W.vret hx hb hr (fun t ht hW => ⟨⟨q, rfl, trivial, by rw [ht]; exact hP1, va_K.moved hW.alike hK, hD1.weaken (fun _ _ _ h => hFc _ h)⟩, hS.F ht⟩) hS.2.2 dX3_init_12
set_option maxHeartbeats 40000000 in
set_option maxRecDepth 100000 in
theorem C_kinit4 (l : Launch) (D : va_G) (dA : Nat → ClassId) (h h1 sz : Nat) : Met l yX4_init (ws_ yX4_init cX4_init 2 none) rC_kinit (va_Pc [.ref h, .ref h1] (fun U => U.heap.size = sz ∧ va_P D vwCl [(h, .inr (8, [.int 0, .null, .int 0, .null, .null]))] U.heap ∧ va_K D vwCl (cT dA) U ∧ va_D (fun _ => True) [(h, .inr (8, [.int 0, .null, .int 0, .null, .null]))])) (va_Qv (fun _ : Nat => True) (fun q t => va_P D vwCl [(h, .inr (4, [.int 12, .ref q, .int 0, .ref h1])), (q, .inl (dA 0, 36, .inl (fun _ => 0)))] t.heap ∧ va_K D vwCl (cT dA) t ∧ va_D (va_A [(h, .inr (8, [.int 0, .null, .int 0, .null, .null]))] sz) [(h, .inr (4, [.int 12, .ref q, .int 0, .ref h1])), (q, .inl (dA 0, 36, .inl (fun _ => 0)))]) (va_A [(h, .inr (8, [.int 0, .null, .int 0, .null, .null]))] sz)) 1 36 (va_A [(h, .inr (8, [.int 0, .null, .int 0, .null, .null]))] sz) := by
  refine Met.ofW (cc := cX4_init) (maxL := 2) (ret := none) (by decide) rfl ?_
  intro p e s m args below meth c s₁ B hml hv
  obtain ⟨rfl, hsz, hP, hK, hD0⟩ := hv
  have hx := B.exec
  have hb := B.bytes
  have hr := B.returns
  have hts := atoms_spec (ws := ws_ yX4_init cX4_init 2 none) B.pre
  have hts : ∀ w ∈ lw_all, w.before _ s = true := fun w h => hts w (List.mem_cons_of_mem _ h)
  have hown : s.vm.findClass RX4 = some m.cls := findClass_of_methodNamed B.named
  have hlocks := B.notSynchronized
  have hin : meth.name = "<init>" := (name_of_methodNamed B.named B.method).1
  subst hsz
  have hD := hD0.self (sz := s.heap.size)
  generalize hAe : va_A [(h, .inr (8, [.int 0, .null, .int 0, .null, .null]))] s.heap.size = A at hD ⊢
  have hA : ∀ q : Nat, s.heap.size ≤ q → A q := fun q h => by rw [← hAe]; exact Or.inr h
  have hS : va_S A s.heap s.heap [] := va_S.rf
  have hl := lv_entry ([.ref h, .ref h1]) (n := 2) (Nat.le_of_ble_eq_true rfl)
  rw [lg_entry_eq]
  generalize (lg_sl ([.ref h, .ref h1]) ++ List.replicate (2 - (lg_sl ([.ref h, .ref h1])).length) Slot.unset).toArray = ls at hl ⊢
  have hl : lv_has ls 2 [(0, .ref h), (1, .ref h1)] := hl
  refine lv_aload_n hx hb dX4_init_0 rfl (lv_at hl 0 rfl) ?_
  refine lv_aload_n hx hb dX4_init_1 rfl (lv_at hl 1 rfl) ?_
  refine cr_put5 (own := RX4) (T := TX4) (c5 := 8) (c4 := 4) (ty := .object "ThirdSheets") hx hb hts in_X4 tyX4 tyX4_ok (by decide +kernel) hown hK hP hD hS 0 rfl rfl rfl (hts _ q151) rfl hin rfl (by decide +kernel) rfl rfl dX4_init_2 (fun H locs v3 hP hD hS => ?_)
  have hP : va_P D vwCl [(h, .inr (4, [.int 0, .null, .int 0, v3]))] H := hP
  have hD : va_D A [(h, .inr (4, [.int 0, .null, .int 0, v3]))] := hD
  refine lv_aload_n hx hb dX4_init_5 rfl (lv_at hl 0 rfl) ?_
  refine lv_aload_n hx hb dX4_init_6 rfl (lv_at hl 1 rfl) ?_
  refine lv_bipush (v := 12) hx hb dX4_init_7 (by decide) ?_
  have hFc := va_free (wc := [(h, .inr (4, [.int 0, .null, .int 0, v3]))]) hD hS hA [0] rfl
  refine va_callv (va_runI (As := [.ref h1, .int 12]) (rest := []) ⟨hx, hb, hml, hown, hts⟩ (C_sinit4 l D dA h h1 H.size v3) (cwI 2 hts (lw_meth q110) rfl rfl rfl (hts _ q83) (hts _ q150) (hts _ q109) rfl (by decide +kernel) ⟨Nat.le_of_ble_eq_true rfl, Nat.le_of_ble_eq_true rfl⟩) ⟨fun a U g mk q => by obtain ⟨q0, q1, qP, qK, qD⟩ := q; exact ⟨q0, q1, qP, va_K.moved (u := U) (U := U.calling g mk a) (Vm.Alike.refl U.vm) qK, qD⟩, fun U hU hW => ⟨rfl, by rw [hU], by rw [hU]; exact hP, va_K.moved hW.alike hK, hD.weaken (fun _ _ _ _ => trivial)⟩⟩ rfl rfl hl.1 rfl (lv_room (Nat.le_of_ble_eq_true rfl)) dX4_init_9 ⟨Nat.le_of_ble_eq_true rfl, Nat.le_of_ble_eq_true rfl⟩) hS (fun q _ h => hFc q h) hFc (fun q t H1 locs1 ht hvm hw hB hz hk hS => ?_)
  obtain ⟨hP1, hK1, hD1⟩ := hB
  rw [ht] at hP1
  refine W.widen (k := 1) (n := 36) (Nat.le_of_ble_eq_true rfl) (Nat.le_of_ble_eq_true rfl) ?_
  exact W.vret hx hb hr (fun t ht hW => ⟨⟨q, rfl, trivial, by rw [ht]; exact hP1, va_K.moved hW.alike hK, hD1.weaken (fun _ _ _ h => hFc _ h)⟩, hS.F ht⟩) hS.2.2 dX4_init_12
