/-! a constructor's start, an array as answer, System.arraycopy of rows -/
/-- n places of the array of rows at sa, from sp on, go to the one at da, from dp on -/
def tOc (S : CS) (sa da sp dp n : Nat) : CS := mkC (kF S) (kI S) (kGl S) (kA S) (kLP S) (kK S) (kG S) (kN S) (kT S) (va_up (kO S) da (va_cpy (kO S sa) (kO S da) sp dp n)) (kR S)
theorem cw_setOc {dA : Nat → ClassId} {o : Nat → Nat} {S : CS} {A : Nat → Prop} {a k sa sp dp n : Nat} (hD : va_D A (CW dA o S)) (h : pk S a 2) (hk : (CW dA o S)[k]? = some (a, .inl (dA 3, kN S a, .inr (.inr (.inr (.inr (kO S a))))))) : (CW dA o S).set k (a, .inl (dA 3, kN S a, .inr (.inr (.inr (.inr (va_cpy (kO S sa) (kO S a) sp dp n)))))) = CW dA o (tOc S sa a sp dp n) := by
  refine cw_set hD h.1 hk (pcl2 h.2).symm rfl rfl (fun b => ?_)
  have h2 := h.2
  show va_up (pcl dA S) a (.inl (dA 3, kN S a, .inr (.inr (.inr (.inr (va_cpy (kO S sa) (kO S a) sp dp n)))))) b = pclE dA (kK S b) (kG S b) (kN S b) (kT S b) (va_up (kO S) a (va_cpy (kO S sa) (kO S a) sp dp n) b) (kR S b)
  by_cases hb : b = a
  · subst hb
    simp only [va_up_self, h2]
    rfl
  · simp only [va_up_ne _ _ hb]
    rfl
section CRX
variable {p : Program} {l : Launch} {e : Env} {R : Room} {s : State} {m : MethodId} {args : Array Value} {below : List Frame} {meth : Method} {c : Code} {H : Heap} {locs : List Loc} {cells slots : Nat} {Q : State → Prop}
variable {own : String} {cc : ByteArray} {pc nL : Nat} {ls : Array Slot} {rest : List Value} {D : va_G} {dA : Nat → ClassId} {o : Nat → Nat} {A : Nat → Prop} {S : CS} {ret : Option FieldType}
theorem cr_startI {y : MethodName} {rm : Room} (Qg : (Nat → Prop) → Array Value → State → Outcome → State → Prop) {sz : Nat} {as : List Value} (hy : y.cls = own) (hn : (lg_sl as).length ≤ nL) (hp : plainName y.cls = true) (hi : y.name = "<init>")
    (body : ∀ (p : Program) (e : Env) (s : State) (m : MethodId) (args : Array Value) (below : List Frame) (meth : Method) (c : Code) (ls : Array Slot) (A : Nat → Prop), cC own p m c cc nL s args meth ret A → meth.name = "<init>" → cw D dA o A s S s.heap [] → lv_has ls nL (lv_args 0 as) → W p l e rm s m args below meth c s.heap [] 0 0 (MQ below (Qg A) args s rm.cells rm.slots A) (F0 m 0 ls [])) :
    Met l y (ws_ y cc nL ret) rm (cPc D dA o sz S as) (Qg (va_A (CW dA o S) sz)) rm.cells rm.slots (va_A (CW dA o S) sz) := by
  refine Met.ofW (cc := cc) (maxL := nL) (ret := ret) hp rfl ?_
  intro p e s m args below meth c s₁ B hml hv
  obtain ⟨rfl, hsz, hP, hK, hD0, hN, hZ⟩ := hv
  have hts := atoms_spec (ws := ws_ y cc nL ret) B.pre
  have hts : ∀ w ∈ lw_all, w.before _ s = true := fun w h => hts w (List.mem_cons_of_mem _ h)
  have hown : s.vm.findClass own = some m.cls := by rw [← hy]; exact findClass_of_methodNamed B.named
  have hin : meth.name = "<init>" := by rw [← hi]; exact (name_of_methodNamed B.named B.method).1
  rw [lg_entry_eq]
  refine body p e s m _ below meth c _ _ ⟨⟨B.exec, B.bytes, hml, hown, hts⟩, B.returns, B.notSynchronized, fun q h => Or.inr (by rw [← hsz]; exact h)⟩ hin ⟨hK, hP, hD0.self, va_S.rf, hN, hZ⟩ (lv_entry as hn)
theorem cr_aretJ {post : Nat → CS → Prop} {a : Nat} (C : cC own p m c cc nL s args meth (some (.array .long)) A) (w : cw D dA o A s S H locs) (h : post a S) (h1 : cells ≤ R.cells) (h2 : slots ≤ R.slots) (hdg : decode cc pc = .ok (.areturn, 1)) : W p l e R s m args below meth c H locs cells slots (cQr below args s D dA o A R post) (F0 m pc ls [.ref a]) :=
  W.widen h1 h2 (W.aret (hlocks := C.2.2.1) C.1.1 C.1.2.1 C.2.1 (Or.inr ⟨_, rfl⟩) (Or.inr ⟨_, rfl⟩) (fun t ht hW => ⟨⟨S, a, rfl, trivial, h, by rw [ht]; exact w.2.1, va_K.moved hW.alike w.1, w.2.2.1⟩, w.2.2.2.1.F ht⟩) w.2.2.2.1.2.2 hdg)
theorem cr_acopy {index sa da : Nat} {sp dp n : Int32} (C : cC RX0 p m c cc nL s args meth ret A) (w : cw D dA o A s S H locs) (ha : pk S sa 2) (hb : pk S da 2) (hel : ∀ i : Nat, i < n.toNatClampNeg → ∀ y : Nat, kO S sa (sp.toNatClampNeg + i) = some y → pk S y 3) (h1 : ¬ sp < 0) (h2 : ¬ dp < 0) (h3 : ¬ n < 0) (h4 : sp.toNatClampNeg + n.toNatClampNeg ≤ kN S sa) (h5 : dp.toNatClampNeg + n.toNatClampNeg ≤ kN S da) (hls : ls.size = nL) (q : Cond.methodLink RX0 index arraycopyName ∈ lw_all)
    (hframes : 1 ≤ R.frames) (hlocals : (rest.map fun v => v.category).sum + (nativeFrameWords "java/lang/System" "arraycopy" 5 + 11) ≤ R.locals) (hdg : decode cc pc = .ok (.invokestatic index, 3))
    (kk : ∀ (H : Heap) (locs : List Loc), cw D dA o A s (tOc S sa da sp.toNatClampNeg dp.toNatClampNeg n.toNatClampNeg) H locs → W p l e R s m args below meth c H locs cells slots Q (F0 m (pc + 3) ls rest)) : W p l e R s m args below meth c H locs cells slots Q (F0 m pc ls (.int n :: .int dp :: .ref da :: .int sp :: .ref sa :: rest)) := by
  have nn : ∀ z : Int32, ¬ z < 0 → z.toInt = (z.toNatClampNeg : Int) := by
    intro z hz
    have hz0 : (0 : Int) ≤ z.toInt := by simpa using Int32.le_iff_toInt_le.mp (Int32.not_lt.mp hz)
    show z.toInt = ((z.toInt.toNat : Nat) : Int)
    omega
  obtain ⟨k0, hk0⟩ := cw_at2 (dA := dA) (o := o) ha
  obtain ⟨k1, hk1⟩ := cw_at2 (dA := dA) (o := o) hb
  obtain ⟨kA, kJ, j1, j2, j3, j4⟩ := cr_jj w
  have hs := cw_setOc (sa := sa) (sp := sp.toNatClampNeg) (dp := dp.toNatClampNeg) (n := n.toNatClampNeg) w.2.2.1 hb hk1
  intro T hT X
  have hc0 : H[sa]? = some (vp_cell (dA 3) (kN S sa, .inr (.inr (.inr (.inr (kO S sa)))))) := w.2.1 k0 _ hk0
  have hc1 : H[da]? = some (vp_cell (dA 3) (kN S da, .inr (.inr (.inr (.inr (kO S da)))))) := w.2.1 k1 _ hk1
  obtain ⟨vm', X', step⟩ := X.arraycopy C.1.1 C.1.2.2.2.1 (C.1.2.2.2.2 _ q) (C.1.2.2.2.2 _ q444) (C.1.2.2.2.2 _ q443) (C.1.2.2.2.2 _ q90) (src := sa) (dst := da) (cs := vp_cell (dA 3) (kN S sa, .inr (.inr (.inr (.inr (kO S sa)))))) (cd := vp_cell (dA 3) (kN S da, .inr (.inr (.inr (.inr (kO S da)))))) (srcPos := sp) (destPos := dp) (n := n) (by rw [hT]; exact hc0) (by rw [hT]; exact hc1)
    (fun _ h => by cases h) (fun _ h => by cases h) (fun h => by cases h) (fun h => by cases h) j1 j1 j2 j2 rfl h1 h2 h3
    (by rw [nn sp h1, nn n h3]; show ¬ _ > ((arrV (dA 3) (kN S sa) (fun j => va_rf (kO S sa j))).slots.size : Int); rw [arrV_size]; omega)
    (by rw [nn dp h2, nn n h3]; show ¬ _ > ((arrV (dA 3) (kN S da) (fun j => va_rf (kO S da j))).slots.size : Int); rw [arrV_size]; omega)
    (fun vm₁ hal i hi => by
      have e : (vp_cell (dA 3) (kN S sa, .inr (.inr (.inr (.inr (kO S sa)))))).slots.getD (sp.toNatClampNeg + i) .null = va_rf (kO S sa (sp.toNatClampNeg + i)) := by
        show (arrV (dA 3) (kN S sa) (fun j => va_rf (kO S sa j))).slots.getD _ _ = _
        rw [Array.getD_eq_getD_getElem?, arrV_read _ _ (by omega)]
        rfl
      rw [e]
      cases hy : kO S sa (sp.toNatClampNeg + i) with
      | none => exact ⟨rfl, trivial⟩
      | some y =>
        obtain ⟨k2, hk2⟩ := cw_at3 (dA := dA) (o := o) (hel i hi y hy)
        have hcy : H[y]? = some (vp_cell (dA 2) (kN S y, .inr (.inl (kR S y)))) := w.2.1 k2 _ hk2
        obtain ⟨kJ', hkJ', -⟩ := hal.2.2 _ _ j3
        refine ⟨rfl, vp_cell (dA 2) (kN S y, .inr (.inl (kR S y))), (show T.heap[y]? = some _ by rw [hT]; exact hcy), (fun q h => by cases h), ⟨kJ', hkJ'⟩, ⟨kJ', hkJ'⟩, ?_⟩
        show vm₁.assignable _ _ = true
        rw [hal.assignable]
        exact j4)
    (g := F0 m pc ls (.int n :: .int dp :: .ref da :: .int sp :: .ref sa :: rest)) rfl (by rw [C.1.2.2.1]; exact hls) (rest := rest) rfl (by rw [C.1.2.1]; exact hdg) hframes (by show 2 * 0 + _ + _ ≤ _; omega)
  have e1 : copied (vp_cell (dA 3) (kN S sa, .inr (.inr (.inr (.inr (kO S sa)))))) (vp_cell (dA 3) (kN S da, .inr (.inr (.inr (.inr (kO S da)))))) sp dp n = vp_cell (dA 3) (kN S da, .inr (.inr (.inr (.inr (va_cpy (kO S sa) (kO S da) sp.toNatClampNeg dp.toNatClampNeg n.toNatClampNeg))))) := by
    rw [vp_cell_q, vp_cell_q, vp_cell_q]
    exact va_copied (fun z => va_rf z) (dA 3) (dA 3) (kO S sa) (kO S da) h4
  rw [e1] at X' step
  have hl : da < H.size := (Array.getElem?_eq_some_iff.mp hc1).1
  generalize hcell : vp_cell (dA 3) (kN S da, .inr (.inr (.inr (.inr (va_cpy (kO S sa) (kO S da) sp.toNatClampNeg dp.toNatClampNeg n.toNatClampNeg))))) = cell at X' step
  have hheap : ((T.setVm vm').setCell da cell).heap = H.setIfInBounds da cell := by rw [← hT]; rfl
  have oq : ∀ q : Nat, q ≠ da → (H.setIfInBounds da cell)[q]? = H[q]? := fun q hq => by simp [Array.getElem?_setIfInBounds, Ne.symm hq]
  obtain ⟨t, a1, b1⟩ := kk _ _ ⟨w.1, hs ▸ (w.2.1.set w.2.2.1 hk1 (show (H.setIfInBounds da cell)[da]? = some (vp_cell _ _) by rw [← hcell]; simp [Array.getElem?_setIfInBounds, hl]) oq), hs ▸ (w.2.2.1.set hk1), ⟨by simp; exact w.2.2.2.1.1, fun q g1 g2 => by
      rw [oq q (fun e => g2 (by rw [e]; exact w.2.2.1.2 k1 _ hk1))]
      exact w.2.2.2.1.2.1 q g1 g2, fun q hq => by
      rcases List.mem_append.mp hq with h | h
      · exact w.2.2.2.1.2.2 q h
      · obtain ⟨z, -, hz⟩ := List.mem_map.mp h
        rw [← hz]
        exact w.2.2.1.2 k1 _ hk1⟩, w.2.2.2.2⟩ _ hheap X'
  exact ⟨t, step t a1, b1⟩
end CRX
theorem va_rf_cat (x : Option Nat) : (va_rf x).category = 1 := by cases x <;> rfl
theorem lv_filtC {lv : List (Nat × Value)} {i : Nat} (hc : ∀ q ∈ lv, q.1 + 1 = i → q.2.category = 1) : lv.filter (fun q => !(q.1 == i) && !(q.1 + 1 == i && q.2.category == 2)) = lv.filter (fun q => !(q.1 == i)) := by
  apply List.filter_congr
  intro q hq
  by_cases h : q.1 + 1 = i
  · simp [hc q hq h]
  · simp [h]
theorem lv_filtL {lv : List (Nat × Value)} {i : Nat} (hc : ∀ q ∈ lv, q.1 + 1 = i → q.2.category = 1) : lv.filter (fun q => !(q.1 == i) && (!(q.1 == i + 1) && !(q.1 + 1 == i && q.2.category == 2))) = lv.filter (fun q => !(q.1 == i) && !(q.1 == i + 1)) := by
  apply List.filter_congr
  intro q hq
  by_cases h : q.1 + 1 = i
  · simp [hc q hq h]
  · have h1 : (q.1 + 1 == i) = false := by simpa using h
    simp [h1]
