/-! rows that fit, purely -/
abbrev Vec : Type := Nat → Nat
noncomputable def dc (p : Prop) : Bool := @decide p (Classical.propDecidable p)
theorem dc_iff {p : Prop} : dc p = true ↔ p := by unfold dc; exact @decide_eq_true_iff p (Classical.propDecidable p)
theorem dc_pos {p : Prop} (h : p) : dc p = true := dc_iff.mpr h
theorem dc_neg {p : Prop} (h : ¬ p) : dc p = false := by
  cases e : dc p with
  | false => rfl
  | true => exact absurd (dc_iff.mp e) h
/-- the equation of a glued side at a corner -/
def eqA (s c : Nat) : Nat := 7 * (s / 4) + c
def eqB (s c : Nat) : Nat := 7 * (s / 4) + 4 + kindN c (s % 4)
def eqn (a : Ab) (s t c : Nat) (x : Vec) : Int := ((x (eqA s c) : Int) + x (eqB s c)) - x (eqA t (aW a s c)) - x (eqB t (aW a s c))
/-- what is not 0 in one is not 0 in two others -/
def inU (r u v : Vec) : Prop := ∀ i, r i ≠ 0 → u i ≠ 0 ∨ v i ≠ 0
def bes (R : List Vec) (u v : Vec) : Prop := ∀ r, r ∈ R → r = u ∨ r = v ∨ ¬ inU r u v
def okP (P : Nat) (R : List Vec) (e : Vec → Int) (u v : Vec) : Prop := 0 < e u ∧ e v < 0 ∧ oneKind (fun i => u i ≠ 0 ∨ v i ≠ 0) P ∧ bes R u v
def gcdN (u : Vec) : Nat → Nat
  | 0 => 0
  | n + 1 => Nat.gcd (gcdN u n) (u n)
def lin (x y : Nat) (u v : Vec) : Vec := fun i => x * u i + y * v i
def nrm (n : Nat) (u : Vec) : Vec := fun i => u i / gcdN u n
def cmb (n : Nat) (e : Vec → Int) (u v : Vec) : Vec := nrm n (lin (-(e v)).toNat (e u).toNat u v)
/-- the pairs that are joined with u -/
noncomputable def prs (P : Nat) (e : Vec → Int) (R : List Vec) (l : List Vec) (u : Vec) : List Vec := (l.filter (fun v => dc (okP P R e u v))).map (fun v => cmb (7 * P) e u v)
noncomputable def zer (e : Vec → Int) (u : Vec) : List Vec := if e u = 0 then [u] else []
noncomputable def stepL (P : Nat) (e : Vec → Int) (R : List Vec) : List Vec := R.flatMap (zer e) ++ R.flatMap (prs P e R R)
noncomputable def stepM (P : Nat) (e : Vec → Int) (R : List Vec) : List Vec := R.flatMap (fun u => zer e u ++ prs P e R R u)
theorem flatMap_app_perm {α β : Type} (f g : α → List β) (l : List α) : List.Perm (l.flatMap (fun u => f u ++ g u)) (l.flatMap f ++ l.flatMap g) := by
  induction l with
  | nil => exact List.Perm.refl _
  | cons x l ih =>
    simp only [List.flatMap_cons]
    refine ((List.Perm.refl (f x ++ g x)).append ih).trans ?_
    rw [List.append_assoc, List.append_assoc]
    refine (List.Perm.refl _).append ?_
    rw [← List.append_assoc, ← List.append_assoc]
    exact List.perm_append_comm.append (List.Perm.refl _)
theorem stepM_perm (P : Nat) (e : Vec → Int) (R : List Vec) : List.Perm (stepM P e R) (stepL P e R) := flatMap_app_perm _ _ _
theorem bes_perm {R R' : List Vec} (h : List.Perm R R') (u v : Vec) : bes R u v ↔ bes R' u v := ⟨fun k r hr => k r (h.mem_iff.mpr hr), fun k r hr => k r (h.mem_iff.mp hr)⟩
theorem prs_perm {P : Nat} {e : Vec → Int} {R R' : List Vec} (h : List.Perm R R') (u : Vec) : List.Perm (prs P e R R u) (prs P e R' R' u) := by
  unfold prs
  have : (fun v => dc (okP P R e u v)) = (fun v => dc (okP P R' e u v)) := by
    funext v
    have : okP P R e u v ↔ okP P R' e u v := by unfold okP; rw [bes_perm h]
    rw [propext this]
  rw [this]
  exact (h.filter _).map _
theorem flatMap_perm_fun {α β : Type} {f g : α → List β} {l : List α} (h : ∀ x, x ∈ l → List.Perm (f x) (g x)) : List.Perm (l.flatMap f) (l.flatMap g) := by
  induction l with
  | nil => exact List.Perm.refl _
  | cons x l ih =>
    simp only [List.flatMap_cons]
    exact (h x List.mem_cons_self).append (ih (fun y hy => h y (List.mem_cons_of_mem _ hy)))
theorem stepL_perm {P : Nat} {e : Vec → Int} {R R' : List Vec} (h : List.Perm R R') : List.Perm (stepL P e R) (stepL P e R') :=
  (h.flatMap_right _).append ((flatMap_perm_fun (fun u _ => prs_perm h u)).trans (h.flatMap_right _))
/-- the order of rows -/
def lxl (n : Nat) (u v : Vec) : Prop := ∃ i, i < n ∧ (∀ j, j < i → u j = v j) ∧ u i < v i
theorem lxl_irr {n : Nat} {u : Vec} : ¬ lxl n u u := fun ⟨i, _, _, h⟩ => absurd h (Nat.lt_irrefl _)
theorem lxl_tr {n : Nat} {u v w : Vec} (h : lxl n u v) (h' : lxl n v w) : lxl n u w := by
  obtain ⟨i, i1, i2, i3⟩ := h
  obtain ⟨j, j1, j2, j3⟩ := h'
  rcases Nat.lt_trichotomy i j with c | c | c
  · exact ⟨i, i1, fun k hk => by rw [i2 k hk, j2 k (by omega)], by rw [← j2 i c]; exact i3⟩
  · subst c; exact ⟨i, i1, fun k hk => by rw [i2 k hk, j2 k hk], by omega⟩
  · exact ⟨j, j1, fun k hk => by rw [i2 k (by omega), j2 k hk], by rw [i2 j c]; exact j3⟩
theorem lxl_as {n : Nat} {u v : Vec} (h : lxl n u v) : ¬ lxl n v u := fun h' => lxl_irr (lxl_tr h h')
theorem lxl_tot (n : Nat) (u v : Vec) : (∀ i, i < n → u i = v i) ∨ lxl n u v ∨ lxl n v u := by
  by_cases h : ∃ i, i < n ∧ u i ≠ v i
  · obtain ⟨i, hi⟩ := h
    obtain ⟨m, h1, h2, h3⟩ := least_of (Q := fun i => i < n ∧ u i ≠ v i) hi
    have e : ∀ j, j < m → u j = v j := fun j hj => by
      by_cases c : u j = v j
      · exact c
      · exact absurd (h3 j ⟨by omega, c⟩) (by omega)
    rcases Nat.lt_or_gt_of_ne h1.2 with c | c
    · exact Or.inr (Or.inl ⟨m, h1.1, e, c⟩)
    · exact Or.inr (Or.inr ⟨m, h1.1, fun j hj => (e j hj).symm, c⟩)
  · refine Or.inl (fun i hi => ?_)
    by_cases c : u i = v i
    · exact c
    · exact absurd ⟨i, hi, c⟩ h
/-- rows have nothing behind place n -/
def vlen (n : Nat) (u : Vec) : Prop := ∀ i, n ≤ i → u i = 0
theorem vec_ext {n : Nat} {u v : Vec} (hu : vlen n u) (hv : vlen n v) (h : ∀ i, i < n → u i = v i) : u = v := by
  funext i
  rcases Nat.lt_or_ge i n with c | c
  · exact h i c
  · rw [hu i c, hv i c]
def srt (n : Nat) (R : List Vec) : Prop := R.Pairwise (fun u v => ¬ lxl n v u)
theorem srt_eq {n : Nat} {R R' : List Vec} (h : List.Perm R R') (hl : ∀ u, u ∈ R → vlen n u) (h1 : srt n R) (h2 : srt n R') : R = R' := by
  refine List.Perm.eq_of_pairwise (le := fun u v => ¬ lxl n v u) (fun u v hu hv k1 k2 => ?_) h1 h2 h
  rcases lxl_tot n u v with c | c | c
  · exact vec_ext (hl u hu) (hl v (h.mem_iff.mpr hv)) c
  · exact absurd c k2
  · exact absurd c k1
/-! gcd of a row -/
theorem gcdN_dvd (u : Vec) {n i : Nat} (h : i < n) : gcdN u n ∣ u i := by
  induction n with
  | zero => exact absurd h (Nat.not_lt_zero _)
  | succ n ih =>
    by_cases e : i = n
    · subst e; exact Nat.gcd_dvd_right _ _
    · exact Nat.dvd_trans (Nat.gcd_dvd_left _ _) (ih (by omega))
theorem gcdN_pos {u : Vec} {n i : Nat} (h : i < n) (hi : u i ≠ 0) : 0 < gcdN u n := by
  rcases Nat.eq_zero_or_pos (gcdN u n) with e | e
  · have := gcdN_dvd u h
    rw [e] at this
    exact absurd (Nat.eq_zero_of_zero_dvd this) hi
  · exact e
theorem gcdN_le {u : Vec} {n : Nat} {m : Nat} (h : ∀ i, i < n → u i ≤ m) : gcdN u n ≤ m := by
  induction n with
  | zero => exact Nat.zero_le _
  | succ n ih =>
    have h1 := ih (fun i hi => h i (by omega))
    unfold gcdN
    rcases Nat.eq_zero_or_pos (u n) with e | e
    · rw [e, Nat.gcd_zero_right]; exact h1
    · exact Nat.le_trans (Nat.gcd_le_right _ e) (h n (by omega))
theorem gcdN_dvdI {u : Vec} {n d : Nat} (h : ∀ i, i < n → d ∣ u i) : d ∣ gcdN u n := by
  induction n with
  | zero => exact Nat.dvd_zero d
  | succ n ih => exact Nat.dvd_gcd (ih (fun i hi => h i (by omega))) (h n (by omega))
theorem gcdN_congr {u v : Vec} {n : Nat} (h : ∀ i, i < n → u i = v i) : gcdN u n = gcdN v n := by
  induction n with
  | zero => rfl
  | succ n ih => unfold gcdN; rw [ih (fun i hi => h i (by omega)), h n (by omega)]
/-- a row without a common divisor -/
def prim (n : Nat) (u : Vec) : Prop := gcdN u n = 1
theorem nrm_prim {n : Nat} {u : Vec} (h : 0 < gcdN u n) : prim n (nrm n u) := by
  unfold prim
  have hd : gcdN (nrm n u) n * gcdN u n ∣ gcdN u n := gcdN_dvdI (fun i hi => by
    have h1 := gcdN_dvd (nrm n u) hi
    have h2 := gcdN_dvd u hi
    obtain ⟨q, hq⟩ := h1
    have e : u i = nrm n u i * gcdN u n := (Nat.div_mul_cancel h2).symm
    rw [e, hq]
    exact ⟨q, by rw [Nat.mul_assoc, Nat.mul_comm q, ← Nat.mul_assoc]⟩)
  have h1 := Nat.le_of_dvd h hd
  have hp : 0 < gcdN (nrm n u) n := by
    rcases Nat.eq_zero_or_pos (gcdN (nrm n u) n) with e | e
    · rw [e, Nat.zero_mul] at hd
      have := Nat.eq_zero_of_zero_dvd hd
      omega
    · exact e
  rcases Nat.lt_or_ge 1 (gcdN (nrm n u) n) with c | c
  · have : 2 * gcdN u n ≤ gcdN (nrm n u) n * gcdN u n := Nat.mul_le_mul_right _ c
    omega
  · omega
theorem nrm_of_prim {n : Nat} {u : Vec} (h : prim n u) : nrm n u = u := by
  funext i
  show u i / gcdN u n = u i
  rw [h, Nat.div_one]
theorem nrm_ne {n : Nat} {u : Vec} {i : Nat} (hi : i < n) : nrm n u i ≠ 0 ↔ u i ≠ 0 := by
  have hd := gcdN_dvd u hi
  have e : u i = nrm n u i * gcdN u n := (Nat.div_mul_cancel hd).symm
  constructor
  · intro h c
    exact h (by show u i / _ = 0; rw [c, Nat.zero_div])
  · intro h c
    rw [c, Nat.zero_mul] at e
    exact h e
