/-! lambdas: the sites -/
theorem em_shape3 {β : Type} {args : Array Nat} {f : Nat → Nat → Nat → Option β} {σ : β} (h : (match args with
  | #[a0, a1, a2] => f a0 a1 a2
  | _ => none) = some σ) : ∃ a0 a1 a2, f a0 a1 a2 = some σ := by
  obtain ⟨l⟩ := args
  match l, h with
  | [], h => cases h
  | [_], h => cases h
  | [_, _], h => cases h
  | [a0, a1, a2], h => exact ⟨a0, a1, a2, h⟩
  | _ :: _ :: _ :: _ :: _, h => cases h
theorem em_shape {cf : ClassFile} {index : Nat} {σ : Lambda.Shape} (h : Lambda.shapeOf? cf index = some σ) : ∃ (b nt : Nat) (name desc : String) (sig : MethodDescriptor), cf.constantPool[index]? = some (.invokeDynamic b nt) ∧ cf.constantPool.nameAndType? nt = some (name, desc) ∧ parseMethodDescriptor desc = some sig ∧ σ.captured = sig.parameters := by
  unfold Lambda.shapeOf? at h
  split at h
  · rename_i b nt hidx
    obtain ⟨entries, -, h⟩ := Option.bind_eq_some_iff.mp h
    obtain ⟨bm, -, h⟩ := Option.bind_eq_some_iff.mp h
    split at h
    · obtain ⟨u1, -, h⟩ := Option.bind_eq_some_iff.mp h
      obtain ⟨a0, a1, a2, h⟩ := em_shape3 h
      split at h
      · split at h
        · split at h
          · obtain ⟨nd, hnd, h⟩ := Option.bind_eq_some_iff.mp h
            obtain ⟨site, hsite, h⟩ := Option.bind_eq_some_iff.mp h
            split at h
            · obtain ⟨mm, -, h⟩ := Option.bind_eq_some_iff.mp h
              obtain ⟨d0, -, h⟩ := Option.bind_eq_some_iff.mp h
              obtain ⟨d1, -, h⟩ := Option.bind_eq_some_iff.mp h
              obtain ⟨d2, -, h⟩ := Option.bind_eq_some_iff.mp h
              obtain ⟨d3, -, h⟩ := Option.bind_eq_some_iff.mp h
              obtain ⟨d4, -, h⟩ := Option.bind_eq_some_iff.mp h
              cases h
              exact ⟨b, nt, nd.1, nd.2, site, hidx, hnd, hsite, rfl⟩
            · cases h
          · cases h
        · cases h
      · cases h
    · cases h
  · cases h
/-- the site of the method x at pc is linked so: the made class c -/
def em_lz (s : State) (x : MethodName) (pc index : Nat) (σ : Lambda.Shape) (c : ClassId) (lk : Linked) : Prop := ∃ (m : MethodId) (k : Class) (cf : ClassFile) (i0 p0 : Nat), s.methodNamed? x = some m ∧ s.vm.classes[m.cls]? = some k ∧ k.cf = some cf ∧ Lambda.shapeOf? cf index = some σ ∧ (k.callSites.find? fun y => y.1 == m.idx && y.2.1 == pc) = some (i0, p0, lk) ∧ Lambda.isMade { classPath := fun _ => none } s.vm m.cls σ c = true ∧ s.lambdaCallable σ c = true
theorem em_lcal {vm vm' : Vm} {s U : State} (h1 : s.vm = vm) (h2 : U.vm = vm') (h : vm.Alike vm') {σ : Lambda.Shape} {c : ClassId} : U.lambdaCallable σ c = s.lambdaCallable σ c := by
  have hd : declaredIn vm' σ.name σ.sam.toString = declaredIn vm σ.name σ.sam.toString := by
    funext k
    exact h.declaredIn ..
  unfold State.lambdaCallable
  rw [h1, h2, h.findClass, h.superclasses, hd]
  congr 1
  funext i
  rw [h.assignable]
theorem em_lz.warm {s U : State} {x : MethodName} {pc index : Nat} {σ : Lambda.Shape} {c : ClassId} {lk : Linked} (hW : s.WarmedH U.vm) (h : em_lz s x pc index σ c lk) : em_lz U x pc index σ c lk := by
  obtain ⟨m, k, cf, i0, p0, h1, h2, h3, h4, h5, h6, h7⟩ := h
  obtain ⟨k', q1, q2⟩ := hW.alike.2.2 _ _ h2
  refine ⟨m, k', cf, i0, p0, ?_, q1, by rw [q2]; exact h3, h4, by rw [q2]; exact h5, Lambda.isMade_warmer hW h6, by rw [em_lcal rfl rfl hW.alike]; exact h7⟩
  have e1 : (s.setVm U.vm).methodNamed? x = some m := by rw [State.methodNamed?_setVm hW.alike]; exact h1
  exact e1
section EMLW
variable {p : Program} {l : Launch} {e : Env} {R : Room} {s : State} {m : MethodId} {args : Array Value} {below : List Frame} {meth : Method} {c : Code} {Q : State → Prop}
variable {D : va_G} {dA : Nat → ClassId} {aty : Nat → FieldType} {cl : List vw_C} {base nL s0 : Nat} {H00 : Heap} {cc : ByteArray} {own : String} {w : em_W} {ls st : List Value} {pc n : Nat} {nw : List Cond} {g : em_G}
theorem em_i_lamC (C : em_Cx p s m args c cc own nL D cl) {dd index i ix : Nat} {x : MethodName} {σ : Lambda.Shape} {cK : ClassId} (hmn : s.methodNamed? x = some m) (hd : decode cc pc = .ok (.invokedynamic index, 5)) (hz : em_lz s x pc ix σ cK (.constant (g.1 i))) (hR : 48 * dd + 300 ≤ R.locals) : em_Sp p l e R s m args below meth c Q D dA aty cl base nL s0 H00 w ls st pc (em_iv g dd pc 5 ls st w [5, i]) := by
  intro pc' ls' st' h q _ _ kk
  simp only [em_iv] at q
  split at q
  · rename_i hdd
    split at q
    · rename_i h8
      obtain ⟨rfl, rfl, rfl, rfl⟩ := em_nx_inv q
      have h8 := of_decide_eq_true h8
      obtain ⟨m', k, cf, i0, p0, z1, z2, z3, z4, z5, -⟩ := hz
      cases hmn.symm.trans z1
      intro lsM H locs cells slots g1 g2 g3 g4 g5
      have k2 := kk lsM H locs cells slots g1 g2 g3 g4 g5
      intro T hT X
      obtain ⟨t, a1, b1⟩ := k2 T hT X
      refine ⟨t, X.lambdaConstant C.1 (g := F0 m pc lsM st) rfl (by rw [C.2.2.2.2.1]; exact g1.2.1.1) (by rw [C.2.1]; exact hd) z2 z5 ?_ a1, b1⟩
      rw [X.admits.platform]
      show 2 * 0 + (st.map fun v => v.category).sum + 3072 ≤ R.locals
      omega
    · cases q
  · cases q
end EMLW
