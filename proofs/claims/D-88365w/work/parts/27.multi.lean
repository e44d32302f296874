/-! multianewarray with two dimensions: a row for the machine. The cells in the kit's own form (arrV), the outer one at every step by a closed form -/
def mlO (c : ClassId) (N h0 i : Nat) : Cell := arrV c N (fun j => if j < i then .ref (h0 + 1 + j) else .null)
def mlI (comp : ClassId) (M : Nat) (dv : Value) : Cell := arrV comp M (fun _ => dv)
theorem mlO_next (c : ClassId) (N h0 i : Nat) : (mlO c N h0 i).setSlot i (.ref (h0 + 1 + i)) = mlO c N h0 (i + 1) := by
  unfold mlO
  rw [arrV_store]
  congr 1
  funext j
  by_cases hj : j = i
  · subst hj; simp [updV]
  · by_cases h2 : j < i
    · simp [updV, hj, h2, Nat.lt_succ_of_lt h2]
    · simp [updV, hj, h2, show ¬ j < i + 1 by omega]
/-- the state when i inner arrays are made -/
def mlS (s : State) (c comp : ClassId) (N M : Nat) (dv : Value) (i : Nat) : State := Nat.rec (s.pushCell (mlO c N s.heap.size 0)) (fun k t => (t.pushCell (mlI comp M dv)).setCell s.heap.size (mlO c N s.heap.size (k + 1))) i
section MLS
variable (s : State) (c comp : ClassId) (N M : Nat) (dv : Value)
theorem mlS_succ (i : Nat) : mlS s c comp N M dv (i + 1) = ((mlS s c comp N M dv i).pushCell (mlI comp M dv)).setCell s.heap.size (mlO c N s.heap.size (i + 1)) := rfl
theorem mlS_is (i : Nat) : ((mlS s c comp N M dv i).heap.size = s.heap.size + 1 + i ∧ (mlS s c comp N M dv i).vm = s.vm ∧ (mlS s c comp N M dv i).slotsUsed = s.slotsUsed + N + i * M) ∧ (mlS s c comp N M dv i).heap[s.heap.size]? = some (mlO c N s.heap.size i) ∧ (∀ a, a < s.heap.size → (mlS s c comp N M dv i).heap[a]? = s.heap[a]?) ∧ ∀ j, j < i → (mlS s c comp N M dv i).heap[s.heap.size + 1 + j]? = some (mlI comp M dv) := by
  induction i with
  | zero =>
    refine ⟨⟨?_, rfl, ?_⟩, ?_, fun a ha => State.heap_pushCell_of_lt _ _ ha, fun j h => absurd h (Nat.not_lt_zero _)⟩
    · show (s.pushCell (mlO c N s.heap.size 0)).heap.size = _; simp
    · show (s.pushCell (mlO c N s.heap.size 0)).slotsUsed = _; simp [mlO, arrV]
    · exact State.heap_pushCell_size _ _
  | succ i ih =>
    obtain ⟨⟨z, v, u⟩, b, ol, inn⟩ := ih
    rw [mlS_succ]
    generalize hp : (mlS s c comp N M dv i).pushCell (mlI comp M dv) = t
    have keep : ∀ a, a < s.heap.size + 1 + i → t.heap[a]? = (mlS s c comp N M dv i).heap[a]? := fun a ha => by rw [← hp]; exact State.heap_pushCell_of_lt _ _ (by rw [z]; exact ha)
    have tb : t.heap[s.heap.size]? = some (mlO c N s.heap.size i) := by rw [keep _ (by omega)]; exact b
    have tz : t.heap.size = s.heap.size + 1 + (i + 1) := by rw [← hp]; simp [z]; omega
    have tn : t.heap[s.heap.size + 1 + i]? = some (mlI comp M dv) := by rw [← hp, ← z]; exact State.heap_pushCell_size _ _
    have oth : ∀ a, s.heap.size ≠ a → (t.setCell s.heap.size (mlO c N s.heap.size (i + 1))).heap[a]? = t.heap[a]? := fun a ha => State.heap_setCell_other ha
    refine ⟨⟨?_, ?_, ?_⟩, State.heap_setCell_self tb, fun a ha => ?_, fun j hj => ?_⟩
    · simp [State.setCell, tz]
    · rw [← v, ← hp]; rfl
    · have e1 : (t.setCell s.heap.size (mlO c N s.heap.size (i + 1))).slotsUsed = t.slotsUsed := by simp
      rw [e1, ← hp]
      simp [u, mlI, arrV, Nat.succ_mul]
      omega
    · rw [oth a (by omega), keep a (by omega)]; exact ol a ha
    · rw [oth _ (by omega)]
      by_cases h : j = i
      · subst h; exact tn
      · rw [keep _ (by omega)]; exact inn j (by omega)
theorem mlS_top (f : JFrame) (i : Nat) : mlS (s.setTop f) c comp N M dv i = (mlS s c comp N M dv i).setTop f := by
  induction i with
  | zero => rfl
  | succ i ih => rw [mlS_succ, mlS_succ, ih]; simp only [State.heap_setTop, State.pushCell_setTop, State.setCell_setTop]
end MLS
theorem mlO_0 (c : ClassId) (N h0 : Nat) : ({ cls := c, slots := Array.replicate N .null, vm := .none } : Cell) = mlO c N h0 0 := by
  rw [arrV_new]
  unfold mlO
  congr 1
theorem mlI_new (c : ClassId) (N : Nat) (dv : Value) : ({ cls := c, slots := Array.replicate N dv, vm := .none } : Cell) = mlI c N dv := arrV_new c N dv
theorem ml_rf {t : FieldType} (h : t.isReference = true) : fits t .null = true ∧ ∀ a, fits t (.ref a) = true := by
  cases t <;> first | exact ⟨rfl, fun _ => rfl⟩ | (simp [FieldType.isReference] at h)
section MLW
variable {E : CtlPost} {e : Env} {d : Bool} {acts : List Action} {s : State}
/-- one array, all default -/
theorem ml_new {c comp : ClassId} {k : Class} {ty : FieldType} {len : Nat} {init : Value} (hk : s.vm.classes[c]? = some k) (hkind : k.kind = .array comp ty) (hb : len ≤ e.platform.arrayLengthLimit ∧ len * componentBytes ty ≤ e.platform.maxHeapBytes) (hi : fits ty init = true ∧ init.isDefault = true) {Q : Addr → Pre} (hr : s.heap.size < e.platform.maxCells ∧ s.slotsUsed + len ≤ e.platform.maxSlots) (hq : Q s.heap.size d acts (s.pushCell { cls := c, slots := Array.replicate len init, vm := .none })) : wp (Jvm.newArray c len init) Q E e d acts s := by
  have n1 : ¬ len > e.platform.arrayLengthLimit := by omega
  have n2 : ¬ len * componentBytes ty > e.platform.maxHeapBytes := by omega
  have hda : allocActs (Array.replicate len init) s.heap.size acts = acts := by
    unfold allocActs
    rw [if_pos (by rw [Array.all_replicate]; split <;> simp [hi.2])]
  simp only [Jvm.newArray, Jvm.arrayFits, wp_bind', W.ask, W.ite, n1, if_false, wp_pure', W.theClass, hk, hkind, n2, W.alloc, W.stop, Option.some.injEq, exists_eq_left', Array.size_replicate, hda]
  rw [if_neg (by omega)]
  refine ⟨hr.1, hr.2, fun i v hv => ?_, hq⟩
  rw [Array.getElem?_replicate] at hv
  by_cases hl : i < len
  · rw [if_pos hl] at hv
    cases hv
    simp [State.fitsSlot, State.slotType?, hk, hkind, hi.1]
  · rw [if_neg hl] at hv
    cases hv
end MLW
