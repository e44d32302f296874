/-! THE COMPONENT's WORLD. State: kF ints of fields (by number in TX0; 42, 43, 44: 'many' of corners, edges, ends), kI fixed int arrays (13..18 by TX0; 32, 33, 34: the paints), kGl the glues (piece, side), kA addresses of rows 6, forms 7, sheets 8, list 11; a pool of made cells kLP with kinds kK (0 Glue, 1 int[], 2 long[][], 3 long[], 4 a Glue yet without its 'to'), kG, kN lengths, kT, kO, kR contents by address -/
abbrev CS : Type := (Nat → Int32) × (Nat → Nat → Int32) × (Nat → Nat → Option Nat) × (Nat → Nat) × List Nat × (Nat → Nat) × (Nat → Int32 × Int32 × Nat) × (Nat → Nat) × (Nat → Nat → Int32) × (Nat → Nat → Option Nat) × (Nat → Nat → Int64)
abbrev kF (S : CS) : Nat → Int32 := S.1
abbrev kI (S : CS) : Nat → Nat → Int32 := S.2.1
abbrev kGl (S : CS) : Nat → Nat → Option Nat := S.2.2.1
abbrev kA (S : CS) : Nat → Nat := S.2.2.2.1
abbrev kLP (S : CS) : List Nat := S.2.2.2.2.1
abbrev kK (S : CS) : Nat → Nat := S.2.2.2.2.2.1
abbrev kG (S : CS) : Nat → Int32 × Int32 × Nat := S.2.2.2.2.2.2.1
abbrev kN (S : CS) : Nat → Nat := S.2.2.2.2.2.2.2.1
abbrev kT (S : CS) : Nat → Nat → Int32 := S.2.2.2.2.2.2.2.2.1
abbrev kO (S : CS) : Nat → Nat → Option Nat := S.2.2.2.2.2.2.2.2.2.1
abbrev kR (S : CS) : Nat → Nat → Int64 := S.2.2.2.2.2.2.2.2.2.2
def mkC (F : Nat → Int32) (I : Nat → Nat → Int32) (Gl : Nat → Nat → Option Nat) (Ad : Nat → Nat) (LP : List Nat) (K : Nat → Nat) (G : Nat → Int32 × Int32 × Nat) (N : Nat → Nat) (T : Nat → Nat → Int32) (O : Nat → Nat → Option Nat) (R : Nat → Nat → Int64) : CS := (F, I, Gl, Ad, LP, K, G, N, T, O, R)
def tF (S : CS) (k : Nat) (v : Int32) : CS := mkC (upd (kF S) k v) (kI S) (kGl S) (kA S) (kLP S) (kK S) (kG S) (kN S) (kT S) (kO S) (kR S)
def tI (S : CS) (a j : Nat) (v : Int32) : CS := mkC (kF S) (fun b => if b = a then upd (kI S a) j v else kI S b) (kGl S) (kA S) (kLP S) (kK S) (kG S) (kN S) (kT S) (kO S) (kR S)
def tGl (S : CS) (p f : Nat) (x : Option Nat) : CS := mkC (kF S) (kI S) (fun b => if b = p then va_up (kGl S p) f x else kGl S b) (kA S) (kLP S) (kK S) (kG S) (kN S) (kT S) (kO S) (kR S)
def tA (S : CS) (k a : Nat) : CS := mkC (kF S) (kI S) (kGl S) (va_up (kA S) k a) (kLP S) (kK S) (kG S) (kN S) (kT S) (kO S) (kR S)
def tT (S : CS) (a j : Nat) (v : Int32) : CS := mkC (kF S) (kI S) (kGl S) (kA S) (kLP S) (kK S) (kG S) (kN S) (va_up (kT S) a (upd (kT S a) j v)) (kO S) (kR S)
def tO (S : CS) (a j : Nat) (x : Option Nat) : CS := mkC (kF S) (kI S) (kGl S) (kA S) (kLP S) (kK S) (kG S) (kN S) (kT S) (va_up (kO S) a (va_up (kO S a) j x)) (kR S)
def tR (S : CS) (a j : Nat) (v : Int64) : CS := mkC (kF S) (kI S) (kGl S) (kA S) (kLP S) (kK S) (kG S) (kN S) (kT S) (kO S) (va_up (kR S) a (vp_updL (kR S a) j v))
def nG4 (S : CS) (q : Nat) : CS := mkC (kF S) (kI S) (kGl S) (kA S) (kLP S ++ [q]) (va_up (kK S) q 4) (va_up (kG S) q (0, 0, 0)) (kN S) (kT S) (kO S) (kR S)
def tG (S : CS) (q k : Nat) (d : Int32 × Int32 × Nat) : CS := mkC (kF S) (kI S) (kGl S) (kA S) (kLP S) (va_up (kK S) q k) (va_up (kG S) q d) (kN S) (kT S) (kO S) (kR S)
def nT (S : CS) (q n : Nat) : CS := mkC (kF S) (kI S) (kGl S) (kA S) (kLP S ++ [q]) (va_up (kK S) q 1) (kG S) (va_up (kN S) q n) (va_up (kT S) q (fun _ => 0)) (kO S) (kR S)
def nO (S : CS) (q n : Nat) : CS := mkC (kF S) (kI S) (kGl S) (kA S) (kLP S ++ [q]) (va_up (kK S) q 2) (kG S) (va_up (kN S) q n) (kT S) (va_up (kO S) q (fun _ => none)) (kR S)
def nR (S : CS) (q n : Nat) : CS := mkC (kF S) (kI S) (kGl S) (kA S) (kLP S ++ [q]) (va_up (kK S) q 3) (kG S) (va_up (kN S) q n) (kT S) (kO S) (va_up (kR S) q (fun _ => 0))
/-- a made cell of a kind -/
def pk (S : CS) (a k : Nat) : Prop := a ∈ kLP S ∧ kK S a = k
def lowF (j : Nat) : Int32 := match j with
  | 3 => 1
  | 4 => 1
  | 5 => 2
  | _ => 0
def highF (j : Nat) : Int32 := match j with
  | 0 => 1
  | 1 => 2
  | 3 => 2
  | _ => 3
def pclE (dA : Nat → ClassId) (k : Nat) (g : Int32 × Int32 × Nat) (n : Nat) (t : Nat → Int32) (oo : Nat → Option Nat) (r : Nat → Int64) : va_E := match k with
  | 0 => .inr (5, [.int g.1, .int g.2.1, .ref g.2.2])
  | 1 => .inl (dA 0, n, .inl t)
  | 2 => .inl (dA 3, n, .inr (.inr (.inr (.inr oo))))
  | 4 => .inr (5, [.int g.1, .int g.2.1, .null])
  | _ => .inl (dA 2, n, .inr (.inl r))
def pcl (dA : Nat → ClassId) (S : CS) (a : Nat) : va_E := pclE dA (kK S a) (kG S a) (kN S a) (kT S a) (kO S a) (kR S a)
abbrev cFs (o : Nat → Nat) (S : CS) : List Value := [.ref (o 1), .int (S.1 1), .ref (o 2), .ref (o 3), .ref (o 4), .int (S.1 5), .ref (kA S 6), .ref (kA S 7), .ref (kA S 8), .int (S.1 9), .int (S.1 10), .ref (kA S 11), .int (S.1 12), .ref (o 13), .ref (o 14), .ref (o 15), .ref (o 16), .ref (o 17), .ref (o 18)]
def gOut (o : Nat → Nat) : Nat → Option Nat := fun i => some (o (20 + i))
def CX (dA : Nat → ClassId) (o : Nat → Nat) (S : CS) : va_W := [(o 0, .inr (1, cFs o S)), (o 2, .inr (2, [.int 4, .ref (o 32), .int (S.1 42), .ref (o 0)])), (o 3, .inr (3, [.int 6, .ref (o 33), .int (S.1 43), .ref (o 0)])), (o 4, .inr (4, [.int 12, .ref (o 34), .int (S.1 44), .ref (o 0)])), (o 1, .inl (dA 5, 3, .inr (.inr (.inr (.inr (gOut o)))))), (o 20, .inl (dA 4, 4, .inr (.inr (.inr (.inr (kGl S 0)))))), (o 21, .inl (dA 4, 4, .inr (.inr (.inr (.inr (kGl S 1)))))), (o 22, .inl (dA 4, 4, .inr (.inr (.inr (.inr (kGl S 2)))))), (o 13, .inl (dA 0, 21, .inl (S.2.1 13))), (o 14, .inl (dA 0, 22, .inl (S.2.1 14))), (o 15, .inl (dA 0, 400, .inl (S.2.1 15))), (o 16, .inl (dA 0, 400, .inl (S.2.1 16))), (o 17, .inl (dA 0, 400, .inl (S.2.1 17))), (o 18, .inl (dA 1, 400, .inl (S.2.1 18))), (o 32, .inl (dA 0, 12, .inl (S.2.1 32))), (o 33, .inl (dA 0, 18, .inl (S.2.1 33))), (o 34, .inl (dA 0, 36, .inl (S.2.1 34)))]
def CW (dA : Nat → ClassId) (o : Nat → Nat) (S : CS) : va_W := CX dA o S ++ va_pl (kLP S) (pcl dA S)
def cT (dA : Nat → ClassId) : List (ClassId × FieldType) := [(dA 0, .int), (dA 1, .boolean), (dA 2, .long), (dA 3, .array .long), (dA 4, .object RX6), (dA 5, .array (.object RX6))]
/-- the private method of the abstract class, on each kind -/
def selSpread (C : String) : Cond := .selects C ⟨RX1, "spread", "(II)V"⟩ ⟨RX1, "spread", "(II)V"⟩
/-- words that don't ride in lw_all -/
def nestW : List Cond := [.fieldLinkNest RX0 116 RX6 "piece" "I" RX0, .fieldLinkNest RX0 119 RX6 "side" "I" RX0, .fieldLinkNest RX0 175 RX6 "to" "[I" RX0, .fieldLinkNest RX1 33 RX0 "glues" "[[LThirdSheets$Glue;" RX0, .fieldLinkNest RX1 26 RX0 "pieces" "I" RX0, .fieldLinkNest RX1 41 RX6 "piece" "I" RX0, .fieldLinkNest RX2 15 RX6 "to" "[I" RX0, .fieldLinkNest RX3 22 RX6 "to" "[I" RX0, .fieldLinkNest RX3 15 RX0 "LOW" "[I" RX0, .fieldLinkNest RX3 19 RX0 "HIGH" "[I" RX0, .fieldLinkNest RX4 22 RX6 "to" "[I" RX0, .fieldLinkNest RX4 15 RX0 "LOW" "[I" RX0, .fieldLinkNest RX4 19 RX0 "HIGH" "[I" RX0, .methodLinkNest RX3 27 ⟨RX0, "edgeOf", "(II)I"⟩ RX0, .methodLinkNest RX4 27 ⟨RX0, "edgeOf", "(II)I"⟩ RX0, .declares ⟨RX1, "across", "(IILThirdSheets$Glue;)I"⟩, selSpread RX2, selSpread RX3, selSpread RX4]
/-- arrays over these are known -/
def overT (ty : FieldType) (U : State) : Prop := (Cond.arrayOver ty).before #[] U = true
def cN (U : State) : Prop := (∀ w ∈ nestW, va_Nw w U) ∧ overT (.array .long) U ∧ overT (.object RX6) U ∧ overT (.array (.object RX6)) U
theorem overT_alike {ty : FieldType} {u U : State} (h : u.vm.Alike U.vm) (ho : overT ty u) : overT ty U := by
  have h1 := Cond.arrayOver_setVmC (args := #[]) h ty
  have h2 : (Cond.arrayOver ty).before #[] (u.setVm U.vm) = (Cond.arrayOver ty).before #[] U := rfl
  unfold overT at ho ⊢
  rw [← h2, h1]
  exact ho
theorem nest_onTables : ∀ w ∈ nestW, w.onTables = true := by decide +kernel
theorem nest_good : ∀ w ∈ nestW, (w.onTables && w.keeps) = true ∨ (∃ a i b n d h, w = .fieldLinkNest a i b n d h) ∨ (∃ a i x h, w = .methodLinkNest a i x h) ∨ (∃ x, w = .declares x) := by
  intro w hw
  simp only [nestW, List.mem_cons, List.not_mem_nil, or_false] at hw
  rcases hw with e | e | e | e | e | e | e | e | e | e | e | e | e | e | e | e | e | e | e <;> subst e
  all_goals first
    | exact Or.inr (Or.inl ⟨_, _, _, _, _, _, rfl⟩)
    | exact Or.inr (Or.inr (Or.inl ⟨_, _, _, _, rfl⟩))
    | exact Or.inr (Or.inr (Or.inr ⟨_, rfl⟩))
    | exact Or.inl (by decide +kernel)
theorem cN_same {u U : State} (h : u.vm = U.vm) (hN : cN u) : cN U := ⟨fun w hw => va_Nw.same (nest_onTables w hw) h (hN.1 w hw), overT_alike (h ▸ Vm.Alike.refl _) hN.2.1, overT_alike (h ▸ Vm.Alike.refl _) hN.2.2.1, overT_alike (h ▸ Vm.Alike.refl _) hN.2.2.2⟩
theorem cN_warm {s U : State} (hW : s.WarmedH U.vm) (hN : cN s) : cN U := by
  refine ⟨fun w hw => ?_, overT_alike hW.alike hN.2.1, overT_alike hW.alike hN.2.2.1, overT_alike hW.alike hN.2.2.2⟩
  have h := hN.1 w hw
  rcases nest_good w hw with g | ⟨a, i, b, n, d, hh, rfl⟩ | ⟨a, i, x, hh, rfl⟩ | ⟨x, rfl⟩
  · exact word_at hW (Or.inl g) h
  · exact va_Nw.warmF hW h
  · exact va_Nw.warmM hW h
  · exact va_Nw.warmD hW h
/-- LOW and HIGH, which nobody writes -/
def cSt (A : Nat → Prop) (U : State) (H : Heap) : Prop := ∃ tL tH : Nat, va_Z RX0 "LOW" "[I" (.ref tL) A U H ∧ va_T .int tL 6 (fun j => .int (lowF j)) A U H ∧ va_Z RX0 "HIGH" "[I" (.ref tH) A U H ∧ va_T .int tH 6 (fun j => .int (highF j)) A U H
theorem cSt_moved {A : Nat → Prop} {u U : State} {H : Heap} (hvm : u.vm.Alike U.vm) (h : cSt A u H) : cSt A U H := by
  obtain ⟨tL, tH, a, b, c, d⟩ := h
  exact ⟨tL, tH, a.moved hvm, b.moved hvm, c.moved hvm, d.moved hvm⟩
theorem cSt_narrow {A B : Nat → Prop} {U : State} {H : Heap} (h : cSt A U H) (hAB : ∀ q, B q → A q) : cSt B U H := by
  obtain ⟨tL, tH, a, b, c, d⟩ := h
  exact ⟨tL, tH, a.narrow hAB, b.narrow hAB, c.narrow hAB, d.narrow hAB⟩
theorem cSt_kept {A : Nat → Prop} {U : State} {H H1 : Heap} (h : cSt A U H) (hq : ∀ a : Nat, a < H.size → ¬ A a → H1[a]? = H[a]?) : cSt A U H1 := by
  obtain ⟨tL, tH, a, b, c, d⟩ := h
  exact ⟨tL, tH, a.kept hq, b.kept hq, c.kept hq, d.kept hq⟩
def cw (D : va_G) (dA : Nat → ClassId) (o : Nat → Nat) (A : Nat → Prop) (s : State) (S : CS) (H : Heap) (locs : List Loc) : Prop := va_K D vwCl (cT dA) s ∧ va_P D vwCl (CW dA o S) H ∧ va_D A (CW dA o S) ∧ va_S A s.heap H locs ∧ cN s ∧ cSt A s s.heap
def cB (D : va_G) (dA : Nat → ClassId) (o : Nat → Nat) (A : Nat → Prop) (S : CS) (t : State) : Prop := va_P D vwCl (CW dA o S) t.heap ∧ va_K D vwCl (cT dA) t ∧ va_D A (CW dA o S)
def cPc (D : va_G) (dA : Nat → ClassId) (o : Nat → Nat) (sz : Nat) (S : CS) (as : List Value) : Array Value → State → Prop := va_Pc as (fun U => U.heap.size = sz ∧ va_P D vwCl (CW dA o S) U.heap ∧ va_K D vwCl (cT dA) U ∧ va_D (fun _ => True) (CW dA o S) ∧ cN U ∧ cSt (va_A (CW dA o S) sz) U U.heap)
def oI (y : MethodName) (cc : ByteArray) (nL : Nat) (ret : Option FieldType) (rm : Room) (as : (Nat → Nat) → List Value) (S : CS) (post : Int32 → CS → Prop) : Prop := ∀ (l : Launch) (D : va_G) (dA : Nat → ClassId) (o : Nat → Nat) (sz : Nat), Met l y (ws_ y cc nL ret) rm (cPc D dA o sz S (as o)) (va_Qi post (cB D dA o (va_A (CW dA o S) sz)) (va_A (CW dA o S) sz)) rm.cells rm.slots (va_A (CW dA o S) sz)
def oL (y : MethodName) (cc : ByteArray) (nL : Nat) (ret : Option FieldType) (rm : Room) (as : (Nat → Nat) → List Value) (S : CS) (post : Int64 → CS → Prop) : Prop := ∀ (l : Launch) (D : va_G) (dA : Nat → ClassId) (o : Nat → Nat) (sz : Nat), Met l y (ws_ y cc nL ret) rm (cPc D dA o sz S (as o)) (va_Ql post (cB D dA o (va_A (CW dA o S) sz)) (va_A (CW dA o S) sz)) rm.cells rm.slots (va_A (CW dA o S) sz)
def oV (y : MethodName) (cc : ByteArray) (nL : Nat) (ret : Option FieldType) (rm : Room) (as : (Nat → Nat) → List Value) (S : CS) (post : CS → Prop) : Prop := ∀ (l : Launch) (D : va_G) (dA : Nat → ClassId) (o : Nat → Nat) (sz : Nat), Met l y (ws_ y cc nL ret) rm (cPc D dA o sz S (as o)) (va_Qv post (cB D dA o (va_A (CW dA o S) sz)) (va_A (CW dA o S) sz)) rm.cells rm.slots (va_A (CW dA o S) sz)
/-- an answer that is a made cell -/
def oR (y : MethodName) (cc : ByteArray) (nL : Nat) (ret : Option FieldType) (rm : Room) (as : (Nat → Nat) → List Value) (S : CS) (post : Nat → CS → Prop) : Prop := ∀ (l : Launch) (D : va_G) (dA : Nat → ClassId) (o : Nat → Nat) (sz : Nat), Met l y (ws_ y cc nL ret) rm (cPc D dA o sz S (as o)) (va_Qr (S := CS) (fun _ => True) (fun S' a t => post a S' ∧ cB D dA o (va_A (CW dA o S) sz) S' t) (va_A (CW dA o S) sz)) rm.cells rm.slots (va_A (CW dA o S) sz)
def cQi (below : List Frame) (args : Array Value) (s : State) (D : va_G) (dA : Nat → ClassId) (o : Nat → Nat) (A : Nat → Prop) (R : Room) (post : Int32 → CS → Prop) : State → Prop := MQ below (va_Qi post (cB D dA o A) A) args s R.cells R.slots A
def cQl (below : List Frame) (args : Array Value) (s : State) (D : va_G) (dA : Nat → ClassId) (o : Nat → Nat) (A : Nat → Prop) (R : Room) (post : Int64 → CS → Prop) : State → Prop := MQ below (va_Ql post (cB D dA o A) A) args s R.cells R.slots A
def cQv (below : List Frame) (args : Array Value) (s : State) (D : va_G) (dA : Nat → ClassId) (o : Nat → Nat) (A : Nat → Prop) (R : Room) (post : CS → Prop) : State → Prop := MQ below (va_Qv post (cB D dA o A) A) args s R.cells R.slots A
def cQr (below : List Frame) (args : Array Value) (s : State) (D : va_G) (dA : Nat → ClassId) (o : Nat → Nat) (A : Nat → Prop) (R : Room) (post : Nat → CS → Prop) : State → Prop := MQ below (va_Qr (S := CS) (fun _ => True) (fun S' a t => post a S' ∧ cB D dA o A S' t) A) args s R.cells R.slots A
def cC (own : String) (p : Program) (m : MethodId) (c : Code) (cc : ByteArray) (nL : Nat) (s : State) (args : Array Value) (meth : Method) (ret : Option FieldType) (A : Nat → Prop) : Prop := CallFix p m c cc nL s args lw_all own ∧ meth.sig.returnType = ret ∧ meth.locks = false ∧ ∀ q : Nat, s.heap.size ≤ q → A q
section CB
variable {p : Program} {l : Launch} {e : Env} {R : Room} {s : State} {m : MethodId} {args : Array Value} {below : List Frame} {meth : Method} {c : Code} {H : Heap} {locs : List Loc} {cells slots : Nat} {Q : State → Prop}
variable {own : String} {cc : ByteArray} {pc nL : Nat} {ls : Array Slot} {rest : List Value} {D : va_G} {dA : Nat → ClassId} {o : Nat → Nat} {A : Nat → Prop} {S : CS} {ret : Option FieldType}
theorem cr_start {y : MethodName} {rm : Room} (Qg : (Nat → Prop) → Array Value → State → Outcome → State → Prop) {sz : Nat} {as : List Value} (hy : y.cls = own) (hn : (lg_sl as).length ≤ nL) (hp : plainName y.cls = true)
    (body : ∀ (p : Program) (e : Env) (s : State) (m : MethodId) (args : Array Value) (below : List Frame) (meth : Method) (c : Code) (ls : Array Slot) (A : Nat → Prop), cC own p m c cc nL s args meth ret A → cw D dA o A s S s.heap [] → lv_has ls nL (lv_args 0 as) → W p l e rm s m args below meth c s.heap [] 0 0 (MQ below (Qg A) args s rm.cells rm.slots A) (F0 m 0 ls [])) :
    Met l y (ws_ y cc nL ret) rm (cPc D dA o sz S as) (Qg (va_A (CW dA o S) sz)) rm.cells rm.slots (va_A (CW dA o S) sz) := by
  refine Met.ofW (cc := cc) (maxL := nL) (ret := ret) hp rfl ?_
  intro p e s m args below meth c s₁ B hml hv
  obtain ⟨rfl, hsz, hP, hK, hD0, hN, hZ⟩ := hv
  have hts := atoms_spec (ws := ws_ y cc nL ret) B.pre
  have hts : ∀ w ∈ lw_all, w.before _ s = true := fun w h => hts w (List.mem_cons_of_mem _ h)
  have hown : s.vm.findClass own = some m.cls := by rw [← hy]; exact findClass_of_methodNamed B.named
  rw [lg_entry_eq]
  refine body p e s m _ below meth c _ _ ⟨⟨B.exec, B.bytes, hml, hown, hts⟩, B.returns, B.notSynchronized, fun q h => Or.inr (by rw [← hsz]; exact h)⟩ ⟨hK, hP, hD0.self, va_S.rf, hN, hZ⟩ (lv_entry as hn)
theorem cr_free (w : cw D dA o A s S H locs) (hA : ∀ q : Nat, s.heap.size ≤ q → A q) : ∀ q : Nat, va_A (CW dA o S) H.size q → A q := by
  intro q h
  rcases h with ⟨k, e, h⟩ | h
  · exact w.2.2.1.2 k _ h
  · exact hA q (Nat.le_trans w.2.2.2.1.1 h)
theorem cr_back (w : cw D dA o A s S H locs) (hA : ∀ q : Nat, s.heap.size ≤ q → A q) {S' : CS} {t : State} {H1 : Heap} {locs1 : List Loc} (ht : t.heap = H1) (hB : cB D dA o (va_A (CW dA o S) H.size) S' t) (hS : va_S A s.heap H1 locs1) : cw D dA o A s S' H1 locs1 :=
  ⟨w.1, by rw [← ht]; exact hB.1, hB.2.2.weaken (fun _ _ _ h => cr_free w hA _ h), hS, w.2.2.2.2⟩
theorem cr_blind {as : List Value} {sz : Nat} : FrameBlind (cPc D dA o sz S as) := fun a U g mk q => by
  obtain ⟨q0, q1, qP, qK, qD, qN, qZ⟩ := q
  exact ⟨q0, q1, qP, va_K.moved (u := U) (U := U.calling g mk a) (Vm.Alike.refl U.vm) qK, qD, cN_same (u := U) (U := U.calling g mk a) rfl qN, cSt_moved (u := U) (U := U.calling g mk a) (Vm.Alike.refl U.vm) qZ⟩
theorem cr_pre {as : List Value} (w : cw D dA o A s S H locs) (hA : ∀ q : Nat, s.heap.size ≤ q → A q) (U : State) (hU : U.heap = H) (hW : s.WarmedH U.vm) : cPc D dA o H.size S as as.toArray U :=
  ⟨rfl, by rw [hU], by rw [hU]; exact w.2.1, va_K.moved hW.alike w.1, w.2.2.1.weaken (fun _ _ _ _ => trivial), cN_warm hW w.2.2.2.2.1, by rw [hU]; exact cSt_moved hW.alike (cSt_narrow (cSt_kept w.2.2.2.2.2 (fun a h1 h2 => w.2.2.2.1.2.1 a h1 h2)) (cr_free w hA))⟩
end CB
