/-! multianewarray with two dimensions: what the machine does -/
section MLM
variable {E : CtlPost} {e : Env} {d : Bool} {acts : List Action} {s : State}
theorem ml_make {c comp cc : ClassId} {k kc : Class} {t0 ty : FieldType} {n m : Int32} (hk : s.vm.classes[c]? = some k) (hkind : k.kind = .array comp t0) (href : t0.isReference = true) (hkc : s.vm.classes[comp]? = some kc) (hkindc : kc.kind = .array cc ty) (hn : ¬ n < 0) (hm : ¬ m < 0)
    (hb1 : n.toNatClampNeg ≤ e.platform.arrayLengthLimit ∧ n.toNatClampNeg * componentBytes t0 ≤ e.platform.maxHeapBytes) (hb2 : m.toNatClampNeg ≤ e.platform.arrayLengthLimit ∧ m.toNatClampNeg * componentBytes ty ≤ e.platform.maxHeapBytes) (hdf : fits ty (defaultValue ty) = true ∧ (defaultValue ty).isDefault = true)
    (hc : s.heap.size + 1 + n.toNatClampNeg ≤ e.platform.maxCells) (hs : s.slotsUsed + n.toNatClampNeg + n.toNatClampNeg * m.toNatClampNeg ≤ e.platform.maxSlots)
    {Q : Addr → Pre} (hq : ∀ d' acts', Q s.heap.size d' acts' (mlS s c comp n.toNatClampNeg m.toNatClampNeg (defaultValue ty) n.toNatClampNeg)) : wp (multianewarray.make c [n, m]) Q E e d acts s := by
  generalize hN : n.toNatClampNeg = N at *
  generalize hM : m.toNatClampNeg = M at *
  have hfind : ([m].find? (· < 0)) = none := by simp [hm]
  rw [multianewarray.make]
  simp only [wp_bind', W.ite, hn, if_false, wp_pure', W.theClass, hk, hkind, Option.some.injEq, exists_eq_left', hN]
  refine ml_new hk hkind hb1 ⟨(ml_rf href).1, rfl⟩ ⟨by omega, by have := Nat.zero_le (N * M); omega⟩ ?_
  rw [mlO_0 c N s.heap.size]
  simp only [hfind]
  rw [ite_self, wp_bind', Std.Legacy.Range.forIn_eq_forIn_range']
  have hsz : ([:N] : Std.Legacy.Range).size = N := by simp [Std.Legacy.Range.size]
  rw [hsz]
  show wp (forIn (List.range' 0 N 1) PUnit.unit _) _ E e d acts _
  refine wp_forIn_inv (fun rest t => ∃ i, i + rest.length = N ∧ rest = List.range' i rest.length ∧ t = mlS s c comp N M (defaultValue ty) i) _ _ ⟨0, by simp, by simp, rfl⟩ ?_ ?_
  · rintro x rest t d' acts' Q' ⟨i, hi, hl, rfl⟩ hnext
    rw [List.length_cons] at hi hl
    rw [List.range'_succ] at hl
    obtain ⟨rfl, hrest⟩ := List.cons.inj hl
    obtain ⟨⟨z, v, u⟩, b, -, -⟩ := mlS_is s c comp N M (defaultValue ty) x
    have hxM : x * M + M ≤ N * M := by
      have := Nat.mul_le_mul_right M (show x + 1 ≤ N by omega)
      rw [Nat.succ_mul] at this
      exact this
    simp only [wp_bind']
    rw [multianewarray.make]
    simp only [wp_bind', W.ite, hm, if_false, wp_pure', W.theClass, v, hkc, hkindc, Option.some.injEq, exists_eq_left', hM]
    refine ml_new (by rw [v]; exact hkc) hkindc hb2 hdf ⟨by rw [z]; omega, by rw [u]; omega⟩ ?_
    rw [mlI_new]
    simp only [wp_bind', W.writeLoc, wp_pure']
    have hlt : s.heap.size < (mlS s c comp N M (defaultValue ty) x).heap.size := by rw [z]; omega
    refine ⟨mlO c N s.heap.size x, by rw [State.heap_pushCell_of_lt (h := hlt)]; exact b, by simp [mlO, arrV], by simp [mlO, arrV]; omega, ?_, hnext _ _ _ ⟨x + 1, by omega, hrest, ?_⟩⟩
    · simp [mlO, arrV, State.fitsSlot, State.slotType?, v, hk, hkind, (ml_rf href).2]
    · rw [z, mlO_next]
      rfl
  · rintro t d' acts' ⟨i, hi, -, rfl⟩
    have hiN : i = N := by simpa using hi
    subst hiN
    simp only [wp_pure']
    exact hq _ _
end MLM
section MLT
variable {p : Program} {l : Launch} {e : Env} {R : Room} {s : State} {m : MethodId} {args : Array Value} {below : List Frame} {meth : Method} {c : Code} {T : State} {locs : List Loc} {cells slots : Nat}
theorem ml_stand (X : Stand p l e R s m args below meth c T locs cells slots) (cA comp : ClassId) (N M : Nat) (dv : Value) (i : Nat) : ∃ L : List Loc, (∀ q ∈ L, q.base = T.heap.size) ∧ Stand p l e R s m args below meth c (mlS T cA comp N M dv i) (locs ++ L) (cells + 1 + i) (slots + N + i * M) := by
  induction i with
  | zero =>
    refine ⟨[], (fun q h => absurd h List.not_mem_nil), ?_⟩
    have h := X.pushed (mlO cA N T.heap.size 0)
    have e1 : (mlO cA N T.heap.size 0).slots.size = N := by unfold mlO; rw [arrV_size]
    rw [e1] at h
    have e2 : slots + N + 0 * M = slots + N := by simp
    rw [e2, List.append_nil]
    exact h
  | succ i ih =>
    obtain ⟨L, hL, Xi⟩ := ih
    obtain ⟨⟨z, v, u⟩, b, -, -⟩ := mlS_is T cA comp N M dv i
    have hlt : T.heap.size < (mlS T cA comp N M dv i).heap.size := by rw [z]; omega
    have hcell : ((mlS T cA comp N M dv i).pushCell (mlI comp M dv)).heap[T.heap.size]? = some (mlO cA N T.heap.size i) := by rw [State.heap_pushCell_of_lt (h := hlt)]; exact b
    have h := (Xi.pushed (mlI comp M dv)).stored hcell i (.ref (T.heap.size + 1 + i))
    have e1 : (mlI comp M dv).slots.size = M := by unfold mlI; rw [arrV_size]
    rw [e1, mlO_next] at h
    refine ⟨L ++ [⟨T.heap.size, i⟩], fun q hq => ?_, ?_⟩
    · rcases List.mem_append.mp hq with h1 | h1
      · exact hL q h1
      · rw [List.mem_singleton.mp h1]
    · have e3 : slots + N + (i + 1) * M = slots + N + i * M + M := by rw [Nat.succ_mul]; omega
      rw [mlS_succ, e3, ← List.append_assoc]
      exact h
theorem ml_step (X : Stand p l e R s m args below meth c T locs cells slots) (hexec : p.tables.exec = Jvm.exec) {own : String} {index : Nat} {ty : FieldType} {cA comp cc : ClassId} {kA kC : Class} (hown : s.vm.findClass own = some m.cls) (hclink : (Cond.classLink own index ("[" ++ (FieldType.array ty).toString)).before args s = true) (hA : s.vm.findClass ("[" ++ (FieldType.array ty).toString) = some cA) (hkA : s.vm.classes[cA]? = some kA) (hkindA : kA.kind = .array comp (.array ty)) (hkC : s.vm.classes[comp]? = some kC) (hkindC : kC.kind = .array cc ty)
    {g : JFrame} (hg : g.method = m) (hdg : decode c.code g.pc = .ok (.multianewarray index 2, 4)) {n k : Int32} {rest : List Value} (hstack : g.stack = .int k :: .int n :: rest) (hn : ¬ n < 0) (hk : ¬ k < 0) (hb : n.toNatClampNeg ≤ 1000 ∧ k.toNatClampNeg ≤ 1000) (hcb : componentBytes ty ≤ 8) (hdf : fits ty (defaultValue ty) = true ∧ (defaultValue ty).isDefault = true)
    (hcells : cells + (1 + n.toNatClampNeg) ≤ R.cells) (hslots : slots + (n.toNatClampNeg + n.toNatClampNeg * k.toNatClampNeg) ≤ R.slots) :
    ∃ vm₁ : Vm, s.WarmedH vm₁ ∧ Stand p l e R s m args below meth c (T.setVm vm₁) locs cells slots ∧ ∀ target, Steps p.tables e below ((mlS (T.setVm vm₁) cA comp n.toNatClampNeg k.toNatClampNeg (defaultValue ty) n.toNatClampNeg).setTop { g with pc := g.pc + 4, stack := .ref T.heap.size :: rest }) target → Steps p.tables e below (T.setTop g) target := by
  subst hg
  have hpl : e.platform.magicAccessors = ({} : Platform).magicAccessors := by rw [X.admits.platform]
  obtain ⟨c0, hfc0, hcl⟩ := Cond.classLink_spec hown hclink e.platform hpl
  cases hA.symm.trans hfc0
  obtain ⟨hg₁, hwarm₁, hready₁⟩ := State.classEntry (e := e) X.warmed hcl
  generalize T.vm.noted g.method.cls index (.cls cA) = vm₁ at hg₁ hwarm₁ hready₁
  obtain ⟨kA₁, hkA₁, heA⟩ := hwarm₁.alike.2.2 _ _ hkA
  obtain ⟨kC₁, hkC₁, heC⟩ := hwarm₁.alike.2.2 _ _ hkC
  have X₁ := X.noted hwarm₁
  obtain ⟨hr1, hr2⟩ := X.roomAbove hcells hslots
  refine ⟨vm₁, hwarm₁, X₁, fun target hrest => ?_⟩
  have hlim : e.platform.arrayLengthLimit ≥ 1000 := by rw [Launch.admits_arrayLengthLimit X.admits]; decide
  have hbig : e.platform.maxHeapBytes ≥ 8000 := by rw [Launch.admits_maxHeapBytes X.admits]; decide
  have hm1 : n.toNatClampNeg * componentBytes (.array ty) ≤ e.platform.maxHeapBytes := by
    show n.toNatClampNeg * 4 ≤ _; omega
  have hm2 : k.toNatClampNeg * componentBytes ty ≤ e.platform.maxHeapBytes := Nat.le_trans (Nat.mul_le_mul hb.2 hcb) hbig
  jvm_step X.here [hexec, hdg]
  simp only [multianewarray.sem, wp_bind', W.resolveClassAt_links (State.method?_setTop g X.here.top) hg₁]
  rw [W.popN, if_neg (by decide)]
  refine ⟨g, State.topJava?_setTop' (s := T.setVm vm₁) g X.here.top, [.int n, .int k], rest, rfl, hstack, ?_⟩
  simp only [List.mapM_cons, List.mapM_nil, wp_bind', wp_pure']
  refine ml_make (k := kA₁) (kc := kC₁) (comp := comp) (cc := cc) (t0 := .array ty) (ty := ty) hkA₁ (by rw [heA]; exact hkindA) rfl hkC₁ (by rw [heC]; exact hkindC) hn hk ⟨by omega, hm1⟩ ⟨by omega, hm2⟩ hdf (by show T.heap.size + 1 + _ ≤ _; omega) (by show T.slotsUsed + _ + _ ≤ _; omega) (fun d' acts' => ?_)
  obtain ⟨L, -, XF⟩ := ml_stand X₁ cA comp n.toNatClampNeg k.toNatClampNeg (defaultValue ty) n.toNatClampNeg
  have eS : ((T.setTop g).setVm vm₁).setTop { g with stack := rest } = (T.setVm vm₁).setTop { g with stack := rest } := by
    show ((T.setVm vm₁).setTop g).setTop _ = _
    rw [State.setTop_setTop]
  rw [eS, mlS_top]
  simp only [wp_bind', W.mark, W.pushRef, State.topJava?_setTop' _ XF.here.top, Option.some.injEq, exists_eq_left', State.setTop_setTop, State.heap_setTop]
  intro acts
  simp [jvm, XF.here.top]
  exact hrest
end MLT
