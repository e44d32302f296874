/-! two worlds side by side: a callee has the one, the other stays -/
theorem wj_P {D : va_G} {cl : List vw_C} {X Y : va_W} {H : Heap} (h : va_P D cl (X ++ Y) H) : va_P D cl X H ∧ va_P D cl Y H :=
  ⟨fun k q hq => h k q (by rw [List.getElem?_append_left (List.getElem?_eq_some_iff.mp hq).1]; exact hq), fun k q hq => h (X.length + k) q (by rw [List.getElem?_append_right (by omega), Nat.add_sub_cancel_left]; exact hq)⟩
theorem wj_D {A : Nat → Prop} {X Y : va_W} (h : va_D A (X ++ Y)) : va_D A X ∧ va_D A Y ∧ ∀ (i j : Nat) (p q : Nat × va_E), X[i]? = some p → Y[j]? = some q → p.1 ≠ q.1 := by
  have hl : ∀ {k : Nat} {q : Nat × va_E}, X[k]? = some q → (X ++ Y)[k]? = some q := fun {k q} hq => by rw [List.getElem?_append_left (List.getElem?_eq_some_iff.mp hq).1]; exact hq
  have hr : ∀ {k : Nat} {q : Nat × va_E}, Y[k]? = some q → (X ++ Y)[X.length + k]? = some q := fun {k q} hq => by rw [List.getElem?_append_right (by omega), Nat.add_sub_cancel_left]; exact hq
  refine ⟨⟨fun i j p q hp hq e => h.1 i j p q (hl hp) (hl hq) e, fun k q hq => h.2 k q (hl hq)⟩, ⟨fun i j p q hp hq e => by have := h.1 _ _ p q (hr hp) (hr hq) e; omega, fun k q hq => h.2 _ q (hr hq)⟩, fun i j p q hp hq e => ?_⟩
  have h1 := h.1 _ _ p q (hl hp) (hr hq) e
  have h2 := (List.getElem?_eq_some_iff.mp hp).1
  omega
/-- the callee had X, and made X1 of it -/
theorem wj_left {A0 : Nat → Prop} {D : va_G} {cl : List vw_C} {X Y X1 : va_W} {H H1 : Heap} (hP : va_P D cl (X ++ Y) H) (hD : va_D A0 (X ++ Y)) (hk : ∀ q : Nat, q < H.size → ¬ va_A X H.size q → H1[q]? = H[q]?) (hF : ∀ q, va_A X H.size q → A0 q) (hP1 : va_P D cl X1 H1) (hD1 : va_D (va_A X H.size) X1) : va_P D cl (X1 ++ Y) H1 ∧ va_D A0 (X1 ++ Y) := by
  obtain ⟨hX, hY⟩ := wj_P hP
  obtain ⟨dX, dY, dXY⟩ := wj_D hD
  have apart : ∀ (k : Nat) (q : Nat × va_E), Y[k]? = some q → q.1 < H.size ∧ ¬ va_A X H.size q.1 := by
    intro k q hq
    have hl := (hY k q hq).lt
    refine ⟨hl, fun h => ?_⟩
    rcases h with ⟨k2, e, h⟩ | h
    · exact dXY k2 k _ q h hq rfl
    · omega
  exact ⟨hP1.app (fun k q hq => (hY k q hq).kept (hk q.1 (apart k q hq).1 (apart k q hq).2)), (hD1.weaken (fun k q _ h => hF q.1 h)).app dY (fun i j x y hx hy e => (apart j y hy).2 (by rw [← e]; exact hD1.2 i x hx))⟩
theorem wj_right {A0 : Nat → Prop} {D : va_G} {cl : List vw_C} {X Y Y1 : va_W} {H H1 : Heap} (hP : va_P D cl (X ++ Y) H) (hD : va_D A0 (X ++ Y)) (hk : ∀ q : Nat, q < H.size → ¬ va_A Y H.size q → H1[q]? = H[q]?) (hF : ∀ q, va_A Y H.size q → A0 q) (hP1 : va_P D cl Y1 H1) (hD1 : va_D (va_A Y H.size) Y1) : va_P D cl (X ++ Y1) H1 ∧ va_D A0 (X ++ Y1) := by
  obtain ⟨hX, hY⟩ := wj_P hP
  obtain ⟨dX, dY, dXY⟩ := wj_D hD
  have apart : ∀ (k : Nat) (q : Nat × va_E), X[k]? = some q → q.1 < H.size ∧ ¬ va_A Y H.size q.1 := by
    intro k q hq
    have hl := (hX k q hq).lt
    refine ⟨hl, fun h => ?_⟩
    rcases h with ⟨k2, e, h⟩ | h
    · exact dXY k k2 q _ hq h rfl
    · omega
  exact ⟨va_P.app (fun k q hq => (hX k q hq).kept (hk q.1 (apart k q hq).1 (apart k q hq).2)) hP1, va_D.app dX (hD1.weaken (fun k q _ h => hF q.1 h)) (fun i j x y hx hy e => (apart i x hx).2 (by rw [e]; exact hD1.2 j y hy))⟩
