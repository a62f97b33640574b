/-! SOUNDNESS: texts, class objects, grids, throwables made, lambdas' sites -/
section EMN
variable {p : Program} {l : Launch} {e : Env} {R : Room} {s : State} {m : MethodId} {args : Array Value} {below : List Frame} {meth : Method} {c : Code} {Q : State → Prop}
variable {D : va_G} {dA : Nat → ClassId} {aty : Nat → FieldType} {cl : List vw_C} {base nL s0 : Nat} {H00 : Heap} {cc : ByteArray} {own : String} {w : em_W} {ls st : List Value} {pc n : Nat} {nw : List Cond} {g : em_G}
theorem em_i_ldcS (C : em_Cx p s m args c cc own nL D cl) {index i : Nat} {tx : String} (hd : decode cc pc = .ok (.ldc index, 2)) (hr : vk_R own index tx (g.1 i) s) : em_Sp p l e R s m args below meth c Q D dA aty cl base nL s0 H00 w ls st pc (em_lt g pc 2 ls st [1, i]) := by
  intro pc' ls' st' h q _ _ kk
  obtain ⟨rfl, rfl, rfl, rfl⟩ := em_nx_inv q
  exact em_plain kk fun lsM H locs cells slots hl k2 => va_ldcS C.1 C.2.1 C.2.2.1 hr hd k2
theorem em_i_ldcM (C : em_Cx p s m args c cc own nL D cl) {index i : Nat} {nm : String} (hd : decode cc pc = .ok (.ldc index, 2)) (hlk : Cond.classLink own index nm ∈ lw_all) (hM : va_Mi nm (g.1 i) s) : em_Sp p l e R s m args below meth c Q D dA aty cl base nL s0 H00 w ls st pc (em_lt g pc 2 ls st [1, i]) := by
  intro pc' ls' st' h q _ _ kk
  obtain ⟨rfl, rfl, rfl, rfl⟩ := em_nx_inv q
  exact em_plain kk fun lsM H locs cells slots hl k2 => va_ldcM C.1 C.2.1 C.2.2.1 (C.2.2.2.1 _ hlk) hM hd k2
theorem em_i_getClass (C : em_Cx p s m args c cc own nL D cl) {dd index i : Nat} {nm : String} (hd : decode cc pc = .ok (.invokevirtual index, 3)) (h1 : Cond.methodLink own index ⟨"java/lang/Object", "getClass", "()Ljava/lang/Class;"⟩ ∈ lw_all) (h2 : (Cond.declares ⟨"java/lang/Object", "getClass", "()Ljava/lang/Class;"⟩).before args s = true) (h3 : Cond.selects nm ⟨"java/lang/Object", "getClass", "()Ljava/lang/Class;"⟩ ⟨"java/lang/Object", "getClass", "()Ljava/lang/Class;"⟩ ∈ lw_all) (h4 : Cond.instanceMethod ⟨"java/lang/Object", "getClass", "()Ljava/lang/Class;"⟩ ∈ lw_all) (h5 : (Cond.native ⟨"java/lang/Object", "getClass", "()Ljava/lang/Class;"⟩).before args s = true)
    (hM : va_Mi nm (g.1 i) s) (hnm : s.vm.findClass nm = some (dA 4)) (hR1 : 1 ≤ R.frames) (hR2 : 40 ≤ R.locals) : em_Sp p l e R s m args below meth c Q D dA aty cl base nL s0 H00 w ls st pc (em_iv g dd pc 3 ls st w [6, i]) := by
  intro pc' ls' st' h q _ _ kk
  simp only [em_iv] at q
  split at q
  · rename_i a rest
    split at q
    · rename_i h8
      split at q
      · rename_i hkd
        obtain ⟨rfl, rfl, rfl, rfl⟩ := em_nx_inv q
        have h8 := of_decide_eq_true h8
        intro lsM H locs cells slots g1 g2 g3 g4 g5
        have k2 := kk lsM H locs cells slots g1 g2 g3 g4 g5
        obtain ⟨cv, c1, c2, c3⟩ := em_kd_cell C.2.2.2.2.2.2.1 g2 hkd
        refine va_getC C.1 C.2.1 (by rw [C.2.2.2.2.1]; exact g1.2.1.1.symm) C.2.2.1 (C.2.2.2.1 _ h1) h2 (C.2.2.2.1 _ h3) (C.2.2.2.1 _ h4) h5 hM ⟨cv, c1, em_notst c2, ?_⟩ hR1 (by omega) hd k2
        rw [c3]
        exact hnm
      · cases q
    · cases q
  · cases q
theorem em_outer (c0 : ClassId) (N h0 : Nat) : ∀ i, Jvm.Free.Multi.outerC c0 N h0 i = arrV c0 N (fun j => if j < i then .ref (h0 + 1 + j) else .null)
  | 0 => by
    show ({ cls := c0, slots := Array.replicate N .null, vm := .none } : Cell) = arrV c0 N (fun _ => .null)
    exact arrV_new c0 N .null
  | i + 1 => by
    rw [Jvm.Free.Multi.outerC, em_outer c0 N h0 i, arrV_store]
    congr 1
    funext j
    unfold updV
    by_cases q : j = i
    · subst q
      rw [if_pos rfl, if_pos (Nat.lt_succ_self _)]
    · rw [if_neg q]
      dsimp only
      by_cases q2 : j < i
      · rw [if_pos q2, if_pos (by omega)]
      · rw [if_neg q2, if_neg (by omega)]
theorem em_arr_ext {c0 : ClassId} {N : Nat} {f f' : Nat → Value} (h : ∀ j, j < N → f j = f' j) : arrV c0 N f = arrV c0 N f' := by
  unfold arrV
  congr 1
  congr 1
  funext j
  exact h j.val j.isLt
theorem em_app_list : ∀ (l : List (em_C × Nat)) (w : em_W), (em_app w (.inl l)).1 = w.1 + l.length ∧ (em_app w (.inl l)).2.1 = w.2.1 + (l.map (fun p => p.2)).sum ∧ (∀ b, b < w.1 ∨ w.1 + l.length ≤ b → (em_app w (.inl l)).2.2 b = w.2.2 b) ∧ ∀ (j : Nat) (x : em_C × Nat), l[j]? = some x → (em_app w (.inl l)).2.2 (w.1 + j) = some x.1 := by
  intro l
  induction l with
  | nil => exact fun w => ⟨rfl, rfl, fun _ _ => rfl, fun j x h => by simp at h⟩
  | cons x l ih =>
    intro w
    have e : em_app w (.inl (x :: l)) = em_app (em_new w x.1 x.2) (.inl l) := rfl
    obtain ⟨h1, h2, h3, h4⟩ := ih (em_new w x.1 x.2)
    have e1 : (em_new w x.1 x.2).1 = w.1 + 1 := rfl
    rw [e]
    rw [e1] at h1 h3 h4
    refine ⟨?_, ?_, fun b hb => ?_, fun j y hy => ?_⟩
    · rw [h1, List.length_cons]; omega
    · rw [h2, List.map_cons, List.sum_cons]
      show w.2.1 + x.2 + _ = _
      omega
    · rw [List.length_cons] at hb
      rw [h3 b (by omega)]
      show (if b = w.1 then some x.1 else w.2.2 b) = _
      rw [if_neg (by omega)]
    · cases j with
      | zero =>
        rw [List.getElem?_cons_zero] at hy
        cases hy
        rw [Nat.add_zero, h3 w.1 (by omega)]
        show (if w.1 = w.1 then some x.1 else w.2.2 w.1) = _
        rw [if_pos rfl]
      | succ j =>
        rw [List.getElem?_cons_succ] at hy
        rw [show w.1 + (j + 1) = w.1 + 1 + j by omega]
        exact h4 j y hy
theorem em_i_multi (C : em_Cx p s m args c cc own nL D cl) {index ko ki : Nat} (hd : decode cc pc = .ok (.multianewarray index 2, 4)) (hko : ko < 100) (hki : ki < 100) (hto : aty ko = .array .int) (hti : aty ki = .int) (h1 : Cond.classLink own index ("[" ++ (FieldType.array .int).toString) ∈ lw_all) (h2 : (Cond.arrayOver (.array .int)).before args s = true) (h3 : Cond.arrayClass .int ∈ lw_all) (h4 : s.vm.findClass ("[" ++ (FieldType.array .int).toString) = some (dA ko)) (h5 : s.vm.findClass (FieldType.array .int).toString = some (dA ki)) : em_Sp p l e R s m args below meth c Q D dA aty cl base nL s0 H00 w ls st pc (em_ma pc 4 ls w [ko, ki] st) := by
  intro pc' ls' st' h q r1 r2 kk
  unfold em_ma at q
  split at q
  · rename_i ko' ki' y x rest hks
    cases hks
    split at q
    · cases q
    · rename_i hc
      cases q
      have hx0 : ¬ x < 0 := fun z => hc (Or.inl z)
      have hx1 : x.toNatClampNeg ≤ 64 := Nat.le_of_not_lt fun z => hc (Or.inr (Or.inl z))
      have hy0 : ¬ y < 0 := fun z => hc (Or.inr (Or.inr (Or.inl z)))
      have hy1 : y.toNatClampNeg ≤ 4096 := Nat.le_of_not_lt fun z => hc (Or.inr (Or.inr (Or.inr z)))
      obtain ⟨l1, l2, l3, l4⟩ := em_app_list ((.inr (ko, x.toNatClampNeg, fun i => .ref (w.1 + 1 + i)), x.toNatClampNeg) :: List.replicate x.toNatClampNeg (.inr (ki, y.toNatClampNeg, fun _ => .int 0), y.toNatClampNeg)) w
      simp only [List.length_cons, List.length_replicate, List.map_cons, List.sum_cons, List.map_replicate, List.sum_replicate_nat] at l1 l2
      rw [l1] at r1
      rw [l2] at r2
      intro lsM H locs cells slots g1 g2 g3 g4 g5
      have hmul : x.toNatClampNeg * y.toNatClampNeg ≤ 64 * 4096 := Nat.mul_le_mul hx1 hy1
      intro T hT X
      have hT1 : T.heap.size = w.1 := by rw [hT]; exact g2.1
      obtain ⟨vm₁, cA, comp, hW, hfA, hfC, hO, hI, X1, step⟩ := X.multianewarray2F C.1 C.2.2.1 (C.2.2.2.1 _ h1) h2 (C.2.2.2.1 _ h3) (g := F0 m pc lsM (.int y :: .int x :: rest)) rfl (by rw [C.2.1]; exact hd) rfl hx0 hy0 (by omega) (by show y.toNatClampNeg * 4 ≤ _; omega) (by omega) rfl rfl (by omega) (by omega)
      have eA : cA = dA ko := Option.some.inj (hfA.symm.trans h4)
      have eC : comp = dA ki := Option.some.inj (hfC.symm.trans h5)
      subst eA
      subst eC
      have ff := Jvm.Free.Multi.fill_facts (T.setVm vm₁) (dA ko) (dA ki) x.toNatClampNeg y.toNatClampNeg (defaultValue .int) x.toNatClampNeg
      obtain ⟨f1, f2, -, -⟩ := ff
      have fo := fun a ha => Jvm.Free.Multi.fill_old (T.setVm vm₁) (dA ko) (dA ki) x.toNatClampNeg y.toNatClampNeg (defaultValue .int) (a := a) ha x.toNatClampNeg
      have fi := Jvm.Free.Multi.fill_inner (T.setVm vm₁) (dA ko) (dA ki) x.toNatClampNeg y.toNatClampNeg (defaultValue .int) x.toNatClampNeg
      have hs : (T.setVm vm₁).heap.size = w.1 := hT1
      have hs2 : (T.setVm vm₁).heap = H := hT
      rw [hs] at f1 f2 fi
      rw [em_outer] at f2
      generalize hF : Jvm.Free.Multi.fill (T.setVm vm₁) (dA ko) (dA ki) x.toNatClampNeg y.toNatClampNeg (defaultValue .int) x.toNatClampNeg = F at *
      have hwok : em_wok D dA aty cl base H00 (em_app w (.inl ((.inr (ko, x.toNatClampNeg, fun i => .ref (w.1 + 1 + i)), x.toNatClampNeg) :: List.replicate x.toNatClampNeg (.inr (ki, y.toNatClampNeg, fun _ => .int 0), y.toNatClampNeg)))) F.heap := by
        refine ⟨by rw [f1, l1]; omega, by rw [l1]; have := g2.2.1; omega, fun a ha => ?_, fun a c0 hc0 => ?_⟩
        · rw [fo a (by rw [hs]; exact Nat.lt_of_lt_of_le ha g2.2.1), hs2]
          exact g2.2.2.1 a ha
        · by_cases q1 : a < w.1
          · rw [l3 a (Or.inl q1)] at hc0
            obtain ⟨b1, b2⟩ := g2.2.2.2 a c0 hc0
            exact ⟨b1.kept (by rw [fo a (by rw [hs]; exact q1), hs2]), b2⟩
          · have hba : base ≤ a := Nat.le_trans g2.2.1 (Nat.le_of_not_lt q1)
            refine ⟨?_, fun _ => hba⟩
            by_cases q2 : a = w.1
            · subst q2
              have hq := hc0.symm.trans (l4 0 _ rfl)
              cases hq
              refine em_arr_cok hko ?_ (fun j _ => by rw [hto]; rfl)
              rw [f2]
              congr 1
              exact em_arr_ext fun j hj => by rw [if_pos hj]
            · by_cases q3 : a < w.1 + 1 + x.toNatClampNeg
              · obtain ⟨j, rfl⟩ : ∃ j, a = w.1 + 1 + j := ⟨a - (w.1 + 1), by omega⟩
                have := l4 (j + 1) (.inr (ki, y.toNatClampNeg, fun _ => .int 0), y.toNatClampNeg) (by rw [List.getElem?_cons_succ, List.getElem?_replicate, if_pos (by omega)])
                rw [show w.1 + (j + 1) = w.1 + 1 + j by omega] at this
                have hq := hc0.symm.trans this
                cases hq
                refine em_arr_cok hki ?_ (fun j _ => by rw [hti]; rfl)
                rw [fi j (by omega)]
                congr 1
                exact arrV_new _ _ _
              · rw [l3 a (Or.inr (by simp only [List.length_cons, List.length_replicate]; omega))] at hc0
                exact absurd (g2.2.2.2 a c0 hc0).1.lt (by rw [g2.1]; exact q1)
      have k2 := kk lsM F.heap locs (cells + 1 + x.toNatClampNeg) (slots + x.toNatClampNeg + x.toNatClampNeg * y.toNatClampNeg) g1 hwok g3 (by rw [l1]; omega) (by rw [l2]; omega)
      obtain ⟨t, b1, b2⟩ := k2 F rfl X1
      refine ⟨t, step t ?_, b2⟩
      first | exact b1 | (rw [hT1]; exact b1)
  · cases q
/-- 'new X; dup; X()': a throwable without a text, whole -/
theorem em_i_make (C : em_Cx p s m args c cc own nL D cl) (hl : l.stackTraces = false) {cls : String} {names : List String} {ik ic ci : Nat} {T0 : u_T} {ds : List Nat}
    (hcls : Bundle.fit cls = true) (hnames : ∀ n ∈ names, Bundle.fit n = true)
    (hk : Cond.classLink own ik cls ∈ lw_all) (hini : Cond.initialized cls ∈ lw_all) (hat : ∀ w ∈ vx_at0 own ic cls names, w.before args s = true)
    (hgood : ∀ w ∈ Cond.classLink own ik cls :: Cond.initialized cls :: vx_at0 own ic cls names, vx_ot w = true)
    (hU : vx_Zq Bundle.tN "UNASSIGNED_STACK" Bundle.steD (fun q => base ≤ q) s H00) (hN : vx_Zq Bundle.tN "SUPPRESSED_SENTINEL" Bundle.listD (fun q => base ≤ q) s H00)
    (d0 : decode cc pc = .ok (.new ik, 3)) (d3 : decode cc (pc + 3) = .ok (.dup, 1)) (d4 : decode cc (pc + 4) = .ok (.invokespecial ic, 3))
    (hc : cl[ci]? = some (cls, T0, 0)) (hci : ci < 100) (hRframes : names.length + 3 < R.frames) (hRlocals : 200 + 13 * names.length ≤ R.locals) : em_Sp p l e R s m args below meth c Q D dA aty cl base nL s0 H00 w ls st pc (em_nw pc 3 ls st w (9 :: ci :: 6 :: ds)) := by
  intro pc' ls' st' h q r1 r2 kk
  simp only [em_nw] at q
  split at q
  case isFalse => cases q
  rename_i hw8
  cases q
  have r1 : w.1 + 1 ≤ s.heap.size + R.cells := r1
  have r2 : w.2.1 + 6 ≤ s0 + R.slots := r2
  have hw8 : (st.map fun v => v.category).sum ≤ 8 := of_decide_eq_true hw8
  intro lsM H locs cells slots g1 g2 g3 g4 g5
  obtain ⟨hexec, hb, hown, hts, hml, hK, hcf⟩ := C
  have hsize : lsM.size = c.maxLocals := by rw [hml]; exact g1.2.1.1
  have hk := hts _ hk
  have hini := hts _ hini
  intro T hT X
  subst hT
  have hRcells : cells + 1 ≤ R.cells := by omega
  have hRslots : slots + 6 ≤ R.slots := by omega
  have htr : e.platform.stackTraces = false := (show e.platform.stackTraces = l.stackTraces by rw [X.admits.platform]).trans hl
  have Y := vx_rebase X (R' := { frames := R.frames, locals := R.locals, cells := 1, slots := 6 }) (Nat.le_refl _) (Nat.le_refl _) hRcells hRslots
  obtain ⟨s', hA'⟩ : ∃ z, z = (T.setVm s.vm).setFrames (.invoking m args :: below) := ⟨_, rfl⟩
  rw [← hA'] at Y
  have hvm : s'.vm = s.vm := by rw [hA']; rfl
  have hhp : s'.heap = T.heap := by rw [hA']; rfl
  have hW0 : s.WarmedH s'.vm := by rw [hvm]; exact State.WarmedH.refl s
  have hat' : ∀ w ∈ vx_at0 own ic cls names, w.before args s' = true := fun w hw => vx_ot_at hW0 hvm.symm (hgood w (List.mem_cons_of_mem _ (List.mem_cons_of_mem _ hw))) (hat w hw)
  have hk' : (Cond.classLink own ik cls).before args s' = true := vx_ot_at hW0 hvm.symm (hgood _ List.mem_cons_self) hk
  have hini' : (Cond.initialized cls).before args s' = true := vx_ot_at hW0 hvm.symm (hgood _ (List.mem_cons_of_mem _ List.mem_cons_self)) hini
  have hkp : ∀ a : Nat, a < H00.size → ¬ base ≤ a → T.heap[a]? = H00[a]? := fun a _ h2 => g2.2.2.1 a (Nat.lt_of_not_le h2)
  have hU' : vx_Zq Bundle.tN "UNASSIGNED_STACK" Bundle.steD (fun q => base ≤ q) s' s'.heap := by rw [hhp]; exact vx_Zq.moved hW0.alike (hU.kept hkp)
  have hN' : vx_Zq Bundle.tN "SUPPRESSED_SENTINEL" Bundle.listD (fun q => base ≤ q) s' s'.heap := by rw [hhp]; exact vx_Zq.moved hW0.alike (hN.kept hkp)
  have h : ∀ w ∈ Bundle.ownAtoms0 own ic cls names, w.before args s' = true := vx_own hat' (vx_isRefq hU'.1) (vx_isRefq hN'.1) hU'.2.word hN'.2.word
  have hown' : s'.vm.findClass own = some m.cls := by rw [hvm]; exact hown
  have hins : (Cond.instantiable cls 6).before args s' = true := h _ (by simp [Bundle.ownAtoms0])
  obtain ⟨vm₁, cX, kX, hfX, hkX, -, -, X₁, st1⟩ := Y.newCold hexec (own := own) (C := cls) (index := ik) (n := 6) hown' hk' hins hini'
    (g := F0 m pc lsM st) rfl (by rw [hb]; exact d0) (Nat.le_refl _) (Nat.le_refl _)
  generalize hT1 : (T.setVm vm₁).pushCell { cls := cX, slots := kX.instanceTypes.map defaultValue, vm := .none } = T1 at X₁ st1
  have hcat : (Value.ref T.heap.size).category = 1 := rfl
  have hcellA : T1.heap[T.heap.size]? = some (freshCell cX kX) := by rw [← hT1]; exact State.heap_pushCell_size _ _
  have d3' : decode c.code (pc + 3) = .ok (.dup, 1) := by rw [hb]; exact d3
  obtain ⟨V, ce, L, Z, hL, hlt, hcl9, hvm9, stp⟩ := vx_ctorMade0 X₁ hexec htr (own := own) (cls := cls) (names := names) (ic := ic) hown' hcls hnames h (fun x hx => nomatch hx) hfX hkX hcellA (by rw [hhp]; exact Nat.le_refl _)
    (g := { method := m, pc := pc + 4, locals := lsM, stack := .ref T.heap.size :: .ref T.heap.size :: st, locked := none }) rfl hsize (rest := st) rfl
    (by rw [hb]; exact d4) hRframes (by simp only [List.map_cons, List.sum_cons, hcat]; show 2 * 0 + _ + _ ≤ _; omega)
  have Z0 := Stand.forget (locs := []) Z (fun y hy => by rw [hL y hy, hhp]; exact Nat.le_refl _)
  obtain ⟨f1, f2⟩ := vx_frame Z0.same
  have f3 : (V.setCell T.heap.size ce).heap.size ≤ T.heap.size + 1 := by
    have := Z0.same.2.2.1
    rw [hhp] at this
    exact this
  rw [hhp] at f1 f2
  have hcid : ce.cls = D.1 ci := by
    rw [hcl9]
    have h1 := (hK.1 ci _ hc).2.1
    rw [hvm] at hfX
    exact Option.some.inj (hfX.symm.trans h1)
  have hh : (V.setCell T.heap.size ce).heap[T.heap.size]? = some ce := heapAt_setCell_self (s := V) ce hlt
  subst hA'
  have X5 := vx_back9 X Y Z0
  have X6 : Stand p l e R s m args below meth c (V.setCell T.heap.size ce) locs (cells + 1) (slots + 6) := { X5 with same := X5.same.mono (by omega) (by omega) }
  have hz : (V.setCell T.heap.size ce).heap.size = T.heap.size + 1 := by
    have := (Array.getElem?_eq_some_iff.mp hh).1
    omega
  have hmod : ci % 1000 = ci := Nat.mod_eq_of_lt (by omega)
  have hsz : T.heap.size = w.1 := g2.1
  obtain ⟨t, a1, b1⟩ := kk lsM (V.setCell T.heap.size ce).heap locs (cells + 1) (slots + 6) g1 (g2.new (c := .inl (ci, [])) hz (Or.inl ⟨(cls, T0, 0), by dsimp only; rw [hmod]; exact hc, rfl, ce, hh, by dsimp only; rw [hmod]; exact hcid, hvm9, fun k hk => absurd hk (Nat.not_lt_zero k)⟩) (fun q hq => f2 q hq (fun z hz => nomatch hz))) g3 (by show _ = w.1 + 1; omega) (by show _ = w.2.1 + 6; omega) _ rfl X6
  refine ⟨t, st1 _ ?_, b1⟩
  show Steps p.tables e below (T1.setTop { method := m, pc := pc + 3, locals := lsM, stack := .ref T.heap.size :: st, locked := none }) _
  jvm_step X₁.here [X₁.here.top, hexec, d3', Value.category]
  rw [← hsz] at a1
  exact stp _ a1
end EMN
