/-! multianewarray: the row -/
theorem arrV_congr (c : ClassId) {N : Nat} {f g : Nat → Value} (h : ∀ j, j < N → f j = g j) : arrV c N f = arrV c N g := by
  unfold arrV
  congr 1
  apply Array.ext
  · simp
  · intro i h1 h2
    simp only [Array.getElem_ofFn]
    exact h i (by simpa using h1)
section MLR
variable {p : Program} {l : Launch} {e : Env} {R : Room} {s : State} {m : MethodId} {args : Array Value} {below : List Frame} {meth : Method} {c : Code} {H : Heap} {locs : List Loc} {cells slots : Nat} {Q : State → Prop}
theorem ml_row {cc : ByteArray} (hexec : p.tables.exec = Jvm.exec) (hb0 : c.code = cc) {own : String} {index : Nat} {ty : FieldType} {cA comp ci : ClassId} {kA kC : Class} (hown : s.vm.findClass own = some m.cls) (hclink : (Cond.classLink own index ("[" ++ (FieldType.array ty).toString)).before args s = true) (hA : s.vm.findClass ("[" ++ (FieldType.array ty).toString) = some cA) (hkA : s.vm.classes[cA]? = some kA) (hkindA : kA.kind = .array comp (.array ty)) (hkC : s.vm.classes[comp]? = some kC) (hkindC : kC.kind = .array ci ty)
    {pc : Nat} {ls : Array Slot} {rest : List Value} {n k : Int32} (N M : Nat) (hN : n.toNatClampNeg = N) (hM : k.toNatClampNeg = M) (hdg : decode cc pc = .ok (.multianewarray index 2, 4)) (hn : ¬ n < 0) (hk : ¬ k < 0) (hb : N ≤ 1000 ∧ M ≤ 1000) (hcb : componentBytes ty ≤ 8) (hdf : fits ty (defaultValue ty) = true ∧ (defaultValue ty).isDefault = true) (hcells : cells + (1 + N) ≤ R.cells) (hslots : slots + (N + N * M) ≤ R.slots)
    (kk : ∀ (H' : Heap) (L : List Loc), (∀ q ∈ L, q.base = H.size) → H'.size = H.size + 1 + N → H'[H.size]? = some (arrV cA N (fun j => .ref (H.size + 1 + j))) → (∀ j, j < N → H'[H.size + 1 + j]? = some (arrV comp M (fun _ => defaultValue ty))) → (∀ a, a < H.size → H'[a]? = H[a]?) → W p l e R s m args below meth c H' (locs ++ L) (cells + 1 + N) (slots + N + N * M) Q (F0 m (pc + 4) ls (.ref H.size :: rest))) : W p l e R s m args below meth c H locs cells slots Q (F0 m pc ls (.int k :: .int n :: rest)) := by
  subst hN hM
  intro T hT X
  obtain ⟨vm₁, hw, X₁, st⟩ := ml_step X hexec hown hclink hA hkA hkindA hkC hkindC (g := F0 m pc ls (.int k :: .int n :: rest)) rfl (by rw [hb0]; exact hdg) rfl hn hk hb hcb hdf hcells hslots
  obtain ⟨L, hL, XF⟩ := ml_stand X₁ cA comp n.toNatClampNeg k.toNatClampNeg (defaultValue ty) n.toNatClampNeg
  obtain ⟨⟨z, v, u⟩, b, ol, inn⟩ := mlS_is (T.setVm vm₁) cA comp n.toNatClampNeg k.toNatClampNeg (defaultValue ty) n.toNatClampNeg
  have hh : (T.setVm vm₁).heap = H := hT
  rw [hh] at hL z b ol inn
  have eO : mlO cA n.toNatClampNeg H.size n.toNatClampNeg = arrV cA n.toNatClampNeg (fun j => .ref (H.size + 1 + j)) := arrV_congr cA (fun j hj => by simp [hj])
  rw [eO] at b
  obtain ⟨t, a1, b1⟩ := kk _ L hL z b inn ol _ rfl XF
  refine ⟨t, st t ?_, b1⟩
  rw [hT]
  exact a1
end MLR
