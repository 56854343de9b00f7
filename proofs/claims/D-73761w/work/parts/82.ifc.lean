/-! calls through interfaces: facts that go with every contract -/
/-- an interface's method on a class: what no word of the list carries -/
def va_IF (C : String) (x y : MethodName) (U : State) : Prop := va_Nw (.declares x) U ∧ va_Nw (.interfaceMethod x.cls x.cls x.name x.desc) U ∧ va_Nw (.publicMethod y) U ∧ va_Nw (.unhidden C x.name x.desc) U ∧ va_Nw (.castable C x.cls) U
theorem va_IF.warm {C : String} {x y : MethodName} {u U : State} (hne : x.cls ≠ "java/lang/invoke/MethodHandle" ∧ x.cls ≠ "java/lang/invoke/VarHandle") (hW : u.WarmedH U.vm) (h : va_IF C x y u) : va_IF C x y U := by
  obtain ⟨h1, h2, h3, h4, h5⟩ := h
  obtain ⟨r0, r, hn, -⟩ := Cond.declares_spec h1
  refine ⟨va_tabs rfl (rfl : (u.setVm U.vm).vm = U.vm) (by rw [Cond.declares_setVm hW.alike]; exact h1), va_tabs rfl (rfl : (u.setVm U.vm).vm = U.vm) (by rw [Cond.interfaceMethod_setVm hW.alike hn hne]; exact h2), va_tabs rfl (rfl : (u.setVm U.vm).vm = U.vm) (by rw [Cond.publicMethod_setVm hW.alike]; exact h3), va_tabs rfl (rfl : (u.setVm U.vm).vm = U.vm) (by rw [Cond.unhidden_setVm hW.alike]; exact h4), h5.warmC hW⟩
/-- the facts of a call through an interface x.cls that inherits the method from J -/
def va_IFU (C : String) (x : MethodName) (J : String) (y : MethodName) (U : State) : Prop := va_Nw (.declares ⟨J, x.name, x.desc⟩) U ∧ va_Nw (.interfaceMethod x.cls J x.name x.desc) U ∧ va_Nw (.publicMethod ⟨J, x.name, x.desc⟩) U ∧ va_Nw (.publicMethod y) U ∧ va_Nw (.unhidden C x.name x.desc) U ∧ va_Nw (.castable C x.cls) U
theorem ifm_setVm {args : Array Value} {s : State} {vm' : Vm} (h : s.vm.Alike vm') (ref owner name desc : String) : (Cond.interfaceMethod ref owner name desc).before args (s.setVm vm') = (Cond.interfaceMethod ref owner name desc).before args s := by
  simp only [Cond.before, Cond.holds, Cond.value, State.vm_setVm, h.findClass, State.methodFound?_setVm h, State.methodNamed?_setVm h, arm_isInterface_setVm h]
theorem va_IFU.warm {C J : String} {x y : MethodName} {u U : State} (hW : u.WarmedH U.vm) (h : va_IFU C x J y u) : va_IFU C x J y U := by
  obtain ⟨h1, h2, h3, h4, h5, h6⟩ := h
  exact ⟨h1.warmD hW, va_tabs rfl (rfl : (u.setVm U.vm).vm = U.vm) (by rw [ifm_setVm hW.alike]; exact h2), va_tabs rfl (rfl : (u.setVm U.vm).vm = U.vm) (by rw [Cond.publicMethod_setVm hW.alike]; exact h3), va_tabs rfl (rfl : (u.setVm U.vm).vm = U.vm) (by rw [Cond.publicMethod_setVm hW.alike]; exact h4), va_tabs rfl (rfl : (u.setVm U.vm).vm = U.vm) (by rw [Cond.unhidden_setVm hW.alike]; exact h5), h6.warmC hW⟩
