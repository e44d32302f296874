/-! a sort's own this$0 (a second field of that name): written once, and forgotten -/
section P5
variable {p : Program} {l : Launch} {e : Env} {R : Room} {s : State} {m : MethodId} {args : Array Value} {below : List Frame} {meth : Method} {c : Code} {H : Heap} {locs : List Loc} {cells slots : Nat} {Q : State → Prop}
variable {cc : ByteArray} {pc : Nat} {ls : Array Slot} {rest : List Value} {D : va_G} {A : Nat → Prop} {a : Nat} {tys : List (ClassId × FieldType)} {ws : va_W} {H0 : Heap}
theorem cr_put5 (hexec : p.tables.exec = Jvm.exec) (hb : c.code = cc) {own : String} {T : u_T} {c5 c4 index : Nat} (hts : ∀ w ∈ lw_all, w.before args s = true) (hin : ∀ w ∈ u_ws own T 5, w ∈ lw_all) (ty0 : Nat → FieldType) (hty : ∀ k, k < 5 → parseFieldDescriptor (T k).2.2.1 = some (ty0 k)) (hnm : ∀ k, k < 3 → (T k).2.1 ≠ (T 4).2.1) (hown : s.vm.findClass own = some m.cls) (hK : va_K D vwCl tys s) (hP : va_P D vwCl ws H) (hD : va_D A ws) (hS0 : va_S A H0 H locs) (q0 : Nat) {f0 f1 f2 f3 f4 : Value} (he : ws[q0]? = some (a, .inr (c5, [f0, f1, f2, f3, f4]))) (hc5 : vwCl[c5]? = some (own, T, 5)) (hc4 : vwCl[c4]? = some (own, T, 4)) (hlink : (Cond.fieldLink own index own (T 4).2.1 (T 4).2.2.1).before args s = true) (hfin : (T 4).2.2.2 = true) (hin2 : meth.name = "<init>") (hdecl : (T 4).1 = own) {ty : FieldType} {v : Value} (hd : parseFieldDescriptor (T 4).2.2.1 = some ty) (hn : narrow ty v = v) (hfit : fits ty v = true)
    (hdg : decode cc pc = .ok (.putfield index, 3)) (kk : ∀ (H1 : Heap) (locs1 : List Loc) (v3 : Value), va_P D vwCl (ws.set q0 (a, .inr (c4, [f0, f1, f2, v3]))) H1 → va_D A (ws.set q0 (a, .inr (c4, [f0, f1, f2, v3]))) → va_S A H0 H1 locs1 → W p l e R s m args below meth c H1 locs1 cells slots Q (F0 m (pc + 3) ls rest)) : W p l e R s m args below meth c H locs cells slots Q (F0 m pc ls (v :: .ref a :: rest)) := by
  obtain ⟨r, h1, cell, q1, q2, q3, q4⟩ := hP q0 _ he
  have hr : r = (own, T, 5) := Option.some.inj (h1.symm.trans hc5)
  subst hr
  obtain ⟨hS5, hfc, kC, hkC, hkind⟩ := hK.1 c5 _ hc5
  obtain ⟨hS4, hfc4, -⟩ := hK.1 c4 _ hc4
  have hS5 : ∀ k, k < 5 → SlotIs s (T k).1 (T k).2.1 (T k).2.2.1 (D.2 c5 k) := hS5
  have hS4 : ∀ k, k < 4 → SlotIs s (T k).1 (T k).2.1 (T k).2.2.1 (D.2 c4 k) := hS4
  have q4 : ∀ k, k < 5 → cell.slots[D.2 c5 k]? = some (vp_V [f0, f1, f2, f3, f4] k) := q4
  have hcc : D.1 c4 = D.1 c5 := Option.some.inj (hfc4.symm.trans hfc)
  have hsl4 : ∀ k, k < 4 → D.2 c4 k = D.2 c5 k := by
    intro k hk
    obtain ⟨_, _, _, fa, ha, ea⟩ := hS4 k hk
    obtain ⟨_, _, _, fb, hb', eb⟩ := hS5 k (by omega)
    have := ha.symm.trans hb'
    simp only [Option.some.injEq, Prod.mk.injEq] at this
    rw [← ea, ← eb, this.2.2.2]
  have hap : ∀ k, k < 3 → D.2 c5 k ≠ D.2 c5 4 := by
    intro k hk
    obtain ⟨_, _, _, fa, ha, ea⟩ := hS5 k (by omega)
    obtain ⟨_, _, _, fb, hb', eb⟩ := hS5 4 (by omega)
    rw [← ea, ← eb]
    refine u_apart (u_lays hts hin (k := k) (by omega)) (u_lays hts hin (k := 4) (by omega)) ha hb' ?_
    rw [(State.fieldFound?_type ha (hty k (by omega))).1, (State.fieldFound?_type hb' (hty 4 (by omega))).1]
    exact hnm k hk
  obtain ⟨cf, kf, fi, f, hi, hsl⟩ := hS5 4 (by omega)
  have hlay := hts _ (hin _ (u_in_lay (k := 4) (by omega)))
  unfold u_lay at hlay
  rw [if_pos hfin] at hlay
  have hst := (u_facts hfc hkC (u_lays hts hin (k := 4) (by omega)) hi).1
  have hcf : m.cls = cf := by
    obtain ⟨_, _, c', _, _, _, -, -, hf', -, -, -, hown2, -⟩ := Cond.laysFinal_spec hlay
    have e1 : c' = cf := by have := hi.symm.trans hf'; simp at this; exact this.1.symm
    rw [hdecl] at hown2
    rw [← e1]; exact Option.some.inj (hown.symm.trans hown2)
  have h6 := u_fits hfc hkC hkind (Or.inr hlay) hi hd hn hfit
  have hi2 : s.fieldFound? own (T 4).2.1 (T 4).2.2.1 = some (cf, kf, fi, f) := by rw [← hdecl]; exact hi
  refine W.putFinK hexec hb hown hlink hi2 hst hcf hin2 (by rw [q2]; exact h6) q1 q3 (by rw [hsl]; exact k2_hasslot (q4 4 (by decide))) rfl rfl hdg fun H' e1 e2 e3 => ?_
  rw [hsl] at e1 ⊢
  have q43 : cell.slots[D.2 c5 3]? = some f3 := q4 3 (by decide)
  have hex : ∃ v3, (cell.setSlot (D.2 c5 4) v).slots[D.2 c5 3]? = some v3 := by
    have hlt : D.2 c5 3 < (cell.setSlot (D.2 c5 4) v).slots.size := by
      have := (Array.getElem?_eq_some_iff.mp q43).1
      simpa [Cell.setSlot] using this
    exact ⟨_, Array.getElem?_eq_getElem hlt⟩
  obtain ⟨v3, hv3⟩ := hex
  refine kk H' _ v3 (hP.set hD he ⟨_, hc4, _, e1, by rw [hcc]; exact q2, q3, fun k hk => ?_⟩ e3) (hD.set he) (hS0.put e2 e3 (hD.2 q0 _ he))
  rw [hsl4 k hk]
  have hold : k < 3 → (cell.setSlot (D.2 c5 4) v).slots[D.2 c5 k]? = cell.slots[D.2 c5 k]? := fun hk3 => by
    simp only [Cell.setSlot, Array.getElem?_setIfInBounds]
    rw [if_neg (Ne.symm (hap k hk3))]
  have hk : k < 4 := hk
  match k, hk, hold with
  | 0, _, hold => rw [hold (by omega)]; exact q4 0 (by decide)
  | 1, _, hold => rw [hold (by omega)]; exact q4 1 (by decide)
  | 2, _, hold => rw [hold (by omega)]; exact q4 2 (by decide)
  | 3, _, _ => exact hv3
end P5
