/-! lambdas: what a made class is, by its shape -/
def em_lD (σ : Lambda.Shape) (nm : String) : ClassFile := (σ.file nm).getD { minorVersion := 0, majorVersion := 0, constantPool := #[], accessFlags := 0, thisClass := 0, superClass := 0, interfaces := #[], fields := #[], methods := #[], attributes := #[] }
def em_lW (σ : Lambda.Shape) (nm : String) : Method := ((layoutMethods (em_lD σ nm)).bind (·[1]?)).getD default
def em_lF (σ : Lambda.Shape) (nm : String) : Array Field × Array FieldType × Array FieldType := (layoutFields (em_lD σ nm) 0).getD (#[], #[], #[])
/-- what is asked of a shape: code, return type, the body's entry (its class's place, its name's place) -/
def em_LS (σ : Lambda.Shape) (nm : String) (bytes : Array UInt8) (ret : FieldType) (ix cx cs nx : Nat) : Prop :=
  (σ.file nm).isSome = true ∧ ((layoutMethods (em_lD σ nm)).bind (·[1]?)).isSome = true ∧ (layoutFields (em_lD σ nm) 0).isSome = true ∧
  ((em_lW σ nm).code.map fun c => (c.code.data, c.maxLocals)) = some (bytes, 2) ∧ ((em_lW σ nm).accessFlags, (em_lW σ nm).sig.returnType) = (0x0001, some ret) ∧
  ((em_lD σ nm).constantPool[ix]? = some (.methodref cx nx) ∧ (em_lD σ nm).constantPool.className? cx = some σ.implClass ∧ (em_lD σ nm).constantPool.nameAndType? nx = some (σ.implName, σ.implDesc.toString)) ∧
  ((em_lD σ nm).constantPool[cx]? = some (.class_ cs) ∧ (em_lD σ nm).constantPool.string? cs = some σ.implClass ∧ cx ≠ (em_lD σ nm).thisClass)
theorem em_made {σ : Lambda.Shape} {nm : String} {bytes : Array UInt8} {ret : FieldType} {ix cx cs nx : Nat} (S : em_LS σ nm bytes ret ix cx cs nx) {e : Setting} {vm : Vm} {d c : ClassId} {dk : Class} (hd : vm.classes[d]? = some dk) (hname : dk.name = nm) (h : Lambda.isMade e vm d σ c = true)
    (hO : ∀ o ok, vm.findClass "java/lang/Object" = some o → vm.classes[o]? = some ok → ok.instanceTypes.size = 0) :
    ∃ (k tk : Class) (file : ClassFile) (methk : Method) (ck : Code) (toy iface : ClassId) (t found : MethodId),
      vm.classes[c]? = some k ∧ k.name = nm ++ "$$Lambda" ∧ k.cf = some file ∧ file.constantPool = (em_lD σ nm).constantPool ∧
      vm.method? ⟨c, 1⟩ = some methk ∧ methk.code = some ck ∧ ck.code = ⟨bytes⟩ ∧ ck.maxLocals = 2 ∧ methk.locks = false ∧ methk.accessFlags = 0x0001 ∧ methk.sig.returnType = some ret ∧ (∀ z ∈ ck.exceptionTable.toList, False) ∧
      vm.findClass σ.implClass = some toy ∧ vm.classes[toy]? = some tk ∧ tk.isInterface = σ.implItf ∧ ((methodIn toy σ.implName σ.implDesc.toString tk.isInterface none).ask e vm).1 = .ok t ∧
      vm.methodReady c ix t ∧ vm.classReady c cx toy ∧ vm.findClass σ.iface = some iface ∧ ((methodIn iface σ.name σ.sam.toString true none).ask e vm).1 = .ok found ∧ selectMethod {} vm c found = .method ⟨c, 1⟩ ∧
      k.instanceTypes = (em_lF σ nm).2.1 ∧
      (∀ (fx cf' nf : Nat) (fn fd : String) (i : Nat) (f : Field), (em_lD σ nm).constantPool[fx]? = some (.fieldref cf' nf) → (em_lD σ nm).constantPool.nameAndType? nf = some (fn, fd) → (em_lF σ nm).1.findIdx? (·.name == fn) = some i → (em_lF σ nm).1[i]? = some f → vm.fieldReady c fx c f) := by
  obtain ⟨dk', k, ok, tk, file, cf, object, iface, toy, lay, methods, target, found, hd', hk, hfile, hcf, hobj, hi, hok, hlay, hms, ht, htk, hg, hfnd, hrec, -, -, -, hitf, hpool, hmeth, hfields, hty, hres, hsel⟩ := Lambda.isMade_spec h
  cases hd.symm.trans hd'
  have e1 : cf = em_lD σ nm := by
    obtain ⟨x, hx⟩ := Option.isSome_iff_exists.mp S.1
    rw [hname] at hcf
    simp [em_lD, hcf]
  subst e1
  have hz := hO object ok hobj hok
  have e2 : lay = em_lF σ nm := by
    rw [hz] at hlay
    simp [em_lF, hlay]
  subst e2
  have e3 : methods[1]? = some (em_lW σ nm) := by
    obtain ⟨x, hx⟩ := Option.isSome_iff_exists.mp S.2.1
    have hf : em_lW σ nm = x := by simp [em_lW, hx]
    rw [hms] at hx
    rw [hf]
    exact hx
  obtain ⟨b, hb, hsame⟩ := hmeth 1 _ e3
  simp only [Lambda.sameMethod, Bool.and_eq_true, decide_eq_true_eq] at hsame
  obtain ⟨⟨hn, -, hsig, hfl⟩, hcode⟩ := hsame
  have fc := S.2.2.2.1
  have ff := S.2.2.2.2.1
  simp only [Prod.mk.injEq] at ff
  cases hfc : (em_lW σ nm).code with
  | none => rw [hfc] at fc; cases fc
  | some x =>
    cases hbc : b.code with
    | none => simp [hfc, hbc] at hcode
    | some y =>
      simp only [hfc, hbc, Bool.and_eq_true, decide_eq_true_eq] at hcode
      simp only [hfc, Option.map_some, Option.some.injEq, Prod.mk.injEq] at fc
      refine ⟨k, tk, file, b, y, toy, iface, target, found, hk, by rw [hrec.1, hname], hfile, hpool.2.1, by simp [Vm.method?, hk, hb], hbc, ?_, by rw [← hcode.1.1.1.1.2.1]; exact fc.2, ?_, by rw [← hfl]; exact ff.1, by rw [← hsig]; exact ff.2, ?_, ht, htk, hitf, hg,
        ⟨k, hk, hres ix _ (Lambda.resolvedOf_method S.2.2.2.2.2.1.1 S.2.2.2.2.2.1.2.1 ht htk S.2.2.2.2.2.1.2.2 hg)⟩, ⟨k, hk, hres cx _ (Lambda.resolvedOf_class S.2.2.2.2.2.2.1 S.2.2.2.2.2.2.2.2 S.2.2.2.2.2.2.2.1 ht)⟩, hi, hfnd, hsel, ?_, ?_⟩
      · rw [← hcode.1.1.1.1.2.2]
        exact ByteArray.ext fc.1
      · simp [Method.locks, Method.isSynchronized, ← hfl, ff.1, hasFlag, Acc.synchronized]
      · intro z hz
        rw [Array.isEmpty_iff.mp hcode.1.1.2] at hz
        cases hz
      · rw [hty.1]
        have e5 : ok.instanceTypes = #[] := Array.size_eq_zero_iff.mp hz
        rw [e5]
        simp
      · intro fx cf' nf fn fd i f q1 q2 q3 q4
        exact ⟨k, i, k, hk, hres fx _ (Lambda.resolvedOf_field q1 q2 q3), hk, hfields i _ q4⟩
