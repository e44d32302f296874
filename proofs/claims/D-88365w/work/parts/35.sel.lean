/-! the private method of the abstract class is what its call finds, whatever kind the object is of -/
theorem selSpread_of {Cl : String} {n : Nat} {args : Array Value} {s : State} (hins : (Cond.instantiable Cl n).before args s = true) (hpriv : (Cond.privateMethod ⟨RX1, "spread", "(II)V"⟩).before args s = true) (hinst : (Cond.instanceMethod ⟨RX1, "spread", "(II)V"⟩).before args s = true) (hsame : (Cond.sameMethod RX1 RX1 "spread" "(II)V").before args s = true) : (selSpread Cl).before args s = true := by
  obtain ⟨c, k, hc, hk, -, hniab, -, -⟩ := Cond.instantiable_spec hins
  obtain ⟨mk, methM, hnamed, hmethM, -, -⟩ := Cond.instanceMethod_spec hinst
  have hfound : s.methodFound? RX1 "spread" "(II)V" = some mk := State.methodFound?_of_named hnamed ⟨by decide +kernel, by decide +kernel⟩
  have hsel : selectMethod {} s.vm c mk = .method mk := selectMethod_private hmethM (Cond.privateMethod_at hpriv mk methM hnamed hmethM)
  obtain ⟨cn, ck, r1, hcn, hck, hni, hf, hn1⟩ := Cond.sameMethod_found hsame
  have e1 : mk = r1 := Option.some.inj (hfound.symm.trans hf)
  subst e1
  have hcls : mk.cls = cn := Option.some.inj ((findClass_of_methodNamed hnamed).symm.trans hcn)
  unfold selSpread
  simp only [Cond.before, Cond.holds, Cond.value, hc, hfound, hnamed, hsel, hcls, hck]
  simp
  exact hni
