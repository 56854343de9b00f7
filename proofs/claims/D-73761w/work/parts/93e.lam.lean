/-! lambdas: the classes that the linking made, their forwarders; call sites; calls -/
set_option maxRecDepth 100000
def lf_D (σ : Lambda.Shape) (cn : String) : ClassFile := (σ.file cn).getD { minorVersion := 0, majorVersion := 0, constantPool := #[], accessFlags := 0, thisClass := 0, superClass := 0, interfaces := #[], fields := #[], methods := #[], attributes := #[] }
def lf_M (σ : Lambda.Shape) (cn : String) : Method := ((layoutMethods (lf_D σ cn)).bind (·[1]?)).getD default
def lf_C (σ : Lambda.Shape) (cn : String) : ByteArray := ((lf_M σ cn).code.map (·.code)).getD ⟨#[]⟩
def lf_b (σ : Lambda.Shape) (cn : String) (i : Nat) : Nat := ((lf_C σ cn).data.getD i 0).toNat
def lf_ix (σ : Lambda.Shape) (cn : String) (i : Nat) : Nat := 256 * lf_b σ cn i + lf_b σ cn (i + 1)
/-- the entry ix names the target -/
def lf_ref (σ : Lambda.Shape) (cn : String) (ix : Nat) : Bool := match (lf_D σ cn).constantPool[ix]? with
  | some (.methodref ci nt) => decide ((lf_D σ cn).constantPool.className? ci = some σ.implClass) && decide ((lf_D σ cn).constantPool.nameAndType? nt = some (σ.implName, σ.implDesc.toString)) && (match (lf_D σ cn).constantPool[ci]? with
    | some (.class_ n) => decide ((lf_D σ cn).constantPool.string? n = some σ.implClass) && decide (ci ≠ (lf_D σ cn).thisClass)
    | _ => false)
  | _ => false
/-- the entry ix names the field that keeps what was captured -/
def lf_fld (σ : Lambda.Shape) (cn : String) (ix : Nat) : Bool := match (lf_D σ cn).constantPool[ix]? with
  | some (.fieldref _ nt) => (match (lf_D σ cn).constantPool.nameAndType? nt with
    | some (name, _) => (match layoutFields (lf_D σ cn) 0 with
      | some lay => decide (lay.1.findIdx? (·.name == name) = some 0) && (match lay.1[0]? with
        | some f => decide (f.slot = 0) && !f.isStatic
        | none => false) && decide (lay.2.1 = #[σ.captured.headD .int])
      | none => false)
    | none => false)
  | _ => false
theorem lf_made {vm : Vm} {d c : ClassId} {dk : Class} {σ : Lambda.Shape} {cn : String} (hd : vm.classes[d]? = some dk) (hname : dk.name = cn) (h : Lambda.isMade { classPath := fun _ => none } vm d σ c = true) (hf : (σ.file cn).isSome = true) (hm2 : ((layoutMethods (lf_D σ cn)).bind (·[1]?)).isSome = true) (hcode : (lf_M σ cn).code.isSome = true) (hfl : (lf_M σ cn).accessFlags = 0x0001) :
    ∃ (k tk ok : Class) (file : ClassFile) (b : Method) (ck : Code) (t object iface : ClassId) (target found : MethodId) (lay : Array Field × Array FieldType × Array FieldType),
      (vm.classes[c]? = some k ∧ k.name = cn ++ "$$Lambda" ∧ k.kind = .ordinary ∧ k.cf = some file ∧ file.constantPool = (lf_D σ cn).constantPool) ∧ (vm.method? ⟨c, 1⟩ = some b ∧ b.code = some ck ∧ ck.code = lf_C σ cn ∧ (lf_M σ cn).code.map (·.maxLocals) = some ck.maxLocals ∧ b.locks = false ∧ b.accessFlags = 0x0001 ∧ b.sig.returnType = (lf_M σ cn).sig.returnType) ∧
      (vm.findClass σ.implClass = some t ∧ vm.classes[t]? = some tk ∧ ((methodIn t σ.implName σ.implDesc.toString tk.isInterface none).ask { classPath := fun _ => none } vm).1 = .ok target) ∧ (vm.findClass σ.iface = some iface ∧ ((methodIn iface σ.name σ.sam.toString true none).ask { classPath := fun _ => none } vm).1 = .ok found) ∧
      (vm.findClass "java/lang/Object" = some object ∧ vm.classes[object]? = some ok ∧ layoutFields (lf_D σ cn) ok.instanceTypes.size = some lay ∧ k.instanceTypes = ok.instanceTypes ++ lay.2.1) ∧ (∀ (i : Nat) a, lay.1[i]? = some a → k.fields[i]? = some a) ∧
      (∀ (i : Nat) x, (Lambda.resolvedOf { classPath := fun _ => none } vm (lf_D σ cn) lay.1 c)[i]? = some (some x) → k.resolved[i]? = some (some x)) := by
  obtain ⟨dk', k, ok, tk, file, cf, object, iface, toy, lay, methods, target, found, hd', hk, hfile, hcf, ho, hi, hok, hlay, hms, ht, htk, hg, hfd, hrec, -, -, -, -, hpool, hmeth, hfs, hit, hres, -⟩ := Lambda.isMade_spec h
  cases hd.symm.trans hd'
  obtain ⟨D0, hD0⟩ := Option.isSome_iff_exists.mp hf
  have hD : cf = lf_D σ cn := by
    rw [hname] at hcf
    unfold lf_D
    rw [hcf]
    rfl
  subst hD
  obtain ⟨fw, hfw⟩ := Option.isSome_iff_exists.mp hm2
  have hfM : lf_M σ cn = fw := by unfold lf_M; rw [hfw]; rfl
  have h1 : methods[1]? = some fw := by rw [hms] at hfw; exact hfw
  obtain ⟨b, hb, hsame⟩ := hmeth 1 fw h1
  simp only [Lambda.sameMethod, Bool.and_eq_true, decide_eq_true_eq] at hsame
  obtain ⟨⟨hn, -, hsig, hfl2⟩, hcode2⟩ := hsame
  rw [hfM] at hcode hfl
  cases hfc : fw.code with
  | none => rw [hfc] at hcode; cases hcode
  | some x =>
    cases hbc : b.code with
    | none => simp [hfc, hbc] at hcode2
    | some y =>
      simp only [hfc, hbc, Bool.and_eq_true, decide_eq_true_eq] at hcode2
      refine ⟨k, tk, ok, file, b, y, toy, object, iface, target, found, lay, ⟨hk, by rw [hrec.1, hname], hrec.2.1, hfile, hpool.2.1⟩, ⟨by simp [Vm.method?, hk, hb], hbc, ?_, ?_, ?_, by rw [← hfl2]; exact hfl, by rw [hfM, ← hsig]⟩, ⟨ht, htk, hg⟩, ⟨hi, hfd⟩, ⟨ho, hok, hlay, hit.1⟩, hfs, hres⟩
      · have : lf_C σ cn = x.code := by unfold lf_C; rw [hfM, hfc]; rfl
        rw [this]
        exact (hcode2.1.1.1.1.2.2).symm
      · rw [hfM, hfc]
        exact congrArg some hcode2.1.1.1.1.2.1
      · simp [Method.locks, Method.isSynchronized, ← hfl2, hfl, hasFlag, Acc.synchronized]
