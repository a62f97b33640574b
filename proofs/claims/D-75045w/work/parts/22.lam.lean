/-! SOUNDNESS of lambdas: the made class's second method forwards to the body -/
theorem em_weaken {tb : Tables} {e : Env} {mid below : List Frame} {a b : State} (h : Steps tb e (mid ++ below) a b) : Steps tb e below a b := by
  obtain ⟨n, hn, w⟩ := h
  exact ⟨n, hn, fun k hk => (w k hk).weaken⟩
section EML
variable {p : Program} {l : Launch} {e : Env} {R : Room} {s : State} {m : MethodId} {args : Array Value} {below : List Frame} {meth : Method} {c : Code} {T : State} {locs : List Loc} {cells slots : Nat}
/-- into a method by its number, and out of it -/
theorem em_enter (X : Stand p l e R s m args below meth c T locs cells slots) {g : JFrame} (hg : g.method = m) (hsize : g.locals.size = c.maxLocals) {ig : Instr} {len : Nat} (hdg : decode c.code g.pc = .ok (ig, len))
    {mk : MethodId} {methk : Method} {ck : Code} (a : Array Value) {R' : Room} (hmk : T.vm.method? mk = some methk) (hck : methk.code = some ck) (hlk : methk.locks = false) (hpk : T.plainMethod mk)
    (hframes : R'.frames + 1 ≤ R.frames) (hlocals : 2 * g.monitorRoom + (g.stack.map fun v => v.category).sum + (ck.maxLocals + 11) + R'.locals ≤ R.locals) (hcells : cells + R'.cells ≤ R.cells) (hslots : slots + R'.slots ≤ R.slots)
    {Qc : Array Value → State → Outcome → State → Prop} {XC : String → Addr → State → State → Prop} {mc ms : Nat} {free : Addr → Prop}
    (k : Stand p l e R' (T.calling g mk a) mk a (.java g :: below) methk ck ((T.setTop g).pushFrame (.java (entryFrame mk a ck.maxLocals))) [] 0 0 →
      ∃ t, Steps p.tables e (.java g :: below) (((T.setTop g).pushFrame (.java (entryFrame mk a ck.maxLocals))).setTop (entryFrame mk a ck.maxLocals)) t ∧ vx_MQ (.java g :: below) Qc XC a (T.calling g mk a) mc ms free t) :
    (∃ (v : Option Value) (T' t : State) (L : List Loc), Stand p l e R s m args below meth c T' (locs ++ L) (cells + mc) (slots + ms) ∧ (∀ q ∈ L, free q.base) ∧ T'.heap = t.heap ∧ T'.vm = t.vm ∧ Qc a (T.calling g mk a) (.returned v) t ∧
      ∀ acts, Steps p.tables e below (doInvoke e (T.setTop g) acts mk a).1 (T'.setTop { g with pc := g.pc + len, stack := v.toList ++ g.stack })) ∨
    (∃ (q : Addr) (T' t : State) (L : List Loc) (E : String) (ce : Cell), Stand p l e R s m args below meth c T' (locs ++ L) (cells + mc) (slots + ms) ∧ (∀ z ∈ L, free z.base) ∧ T'.heap = t.heap ∧ T'.vm = t.vm ∧ XC E q (T.calling g mk a) t ∧ t.heap[q]? = some ce ∧ ce.vm = .none ∧ T.vm.findClass E = some ce.cls ∧
      ∀ acts, Steps p.tables e below (doInvoke e (T.setTop g) acts mk a).1 ((T'.setTop g).pushFrame (.throwing q))) := by
  obtain ⟨Y₀, hin⟩ := X.into hg hsize hdg a (R' := R') hmk hck hlk hpk hframes hlocals hcells hslots
  obtain ⟨t, hst, o, hrun, hend, hq⟩ := k Y₀
  rcases hq with ⟨hqc, L, hfe, hL⟩ | ⟨q, rfl, E, ce, L, hx, hce, hcv, hcl, hW₂, hsm, hL⟩
  · obtain ⟨⟨v, rfl⟩, hW₂, hsame⟩ := hfe
    obtain ⟨T', X', hW', -, ht⟩ := X.outOf hg hdg hend hW₂ hsame
    refine Or.inl ⟨v, T', t, L, X', hL, by rw [ht]; rfl, by rw [ht]; rfl, hqc, fun acts => ?_⟩
    rw [hin acts, ← ht]
    exact em_weaken (mid := [.java g]) hst
  · obtain ⟨T', X', hW', -, ht⟩ := X.outOfThrown hg hend hW₂ hsm
    refine Or.inr ⟨q, T', t, L, E, ce, X', hL, by rw [ht]; rfl, by rw [ht]; rfl, hx, hce, hcv, hcl, fun acts => ?_⟩
    rw [hin acts, ← ht]
    exact em_weaken (mid := [.java g]) hst
/-- a forwarder to a static body -/
theorem em_fwdS (X : Stand p l e R s m args below meth c T locs cells slots) (hexec : p.tables.exec = Jvm.exec) {g : JFrame} (hg : g.method = m) (hsize : g.locals.size = c.maxLocals) {ig : Instr} {len : Nat} (hdg : decode c.code g.pc = .ok (ig, len))
    {mk : MethodId} {methk : Method} {ck : Code} (hmk : T.vm.method? mk = some methk) (hck : methk.code = some ck) (hml : ck.maxLocals = 2) (hlk : methk.locks = false) (hpk : T.plainMethod mk) (hex : ∀ z ∈ ck.exceptionTable.toList, False)
    {ty : FieldType} (hretk : methk.sig.returnType = some ty)
    {a : Addr} {x : Value} {i0 : Instr} (hd0 : decode ck.code 0 = .ok (i0, 1)) (hi0 : (i0 = .iload_n 1 ∧ ∃ z, x = .int z) ∨ (i0 = .aload_n 1 ∧ ∃ b, x = .ref b)) {ix : Nat} (hd1 : decode ck.code 1 = .ok (.invokestatic ix, 3)) (hd4 : decode ck.code 4 = .ok (.ireturn, 1))
    {t : MethodId} {kt : Class} {metht : Method} (href : plainRef T e mk.cls ix) (hready : T.vm.methodReady mk.cls ix t) (hkt : T.vm.classes[t.cls]? = some kt) (hmt : T.vm.method? t = some metht)
    (hpoly : signaturePolymorphic kt metht = false) (hstatic : metht.isStatic = true) (hinit : kt.init = .initialized) (hpar : metht.sig.parameters.length = 1)
    {y : MethodName} (hy : T.methodNamed? y = some t) {ws : List Cond} {rm R' : Room} {Pc : Array Value → State → Prop} {Qc : Array Value → State → Outcome → State → Prop} {XC : String → Addr → State → State → Prop} {mc ms : Nat} {free : Addr → Prop} {bytes : ByteArray} {maxL : Nat} {ret : Option FieldType}
    (hM : vx_Met l y ws rm Pc Qc XC mc ms free) (hblind : FrameBlind Pc) (hrc : rm.cells = mc) (hrs : rm.slots = ms)
    (hws : ∀ w ∈ ws, ∀ (a' : Array Value) (U : State), T.WarmedH U.vm → w.before a' U = true) (hcode : Cond.code y bytes maxL ret ∈ ws) (hini : ∀ (a' : Array Value) (U : State), T.WarmedH U.vm → (Cond.initialized y.cls).before a' U = true)
    (hPc : ∀ U : State, U.heap = T.heap → U.vm = T.vm → Pc #[x] U)
    (hQ : ∀ a st o t, Qc a st o t → ∃ r : Int32, o = .returned (some (.int r)) ∧ narrow ty (.int r) = .int r)
    (hR1 : rm.frames + 1 ≤ R'.frames) (hR2 : maxL + 11 + rm.locals ≤ R'.locals) (hframes : R'.frames + 1 ≤ R.frames) (hlocals : 2 * g.monitorRoom + (g.stack.map fun v => v.category).sum + 13 + R'.locals ≤ R.locals) (hRc : R'.cells = mc) (hRs : R'.slots = ms) (hcells : cells + mc ≤ R.cells) (hslots : slots + ms ≤ R.slots) :
    (∃ (v : Option Value) (st₀ t T' : State) (L : List Loc), st₀.heap = T.heap ∧ Stand p l e R s m args below meth c T' (locs ++ L) (cells + mc) (slots + ms) ∧ (∀ q ∈ L, free q.base) ∧ T'.heap = t.heap ∧ T'.vm = t.vm ∧ Qc #[x] st₀ (.returned v) t ∧
      ∀ acts, Steps p.tables e below (doInvoke e (T.setTop g) acts mk #[.ref a, x]).1 (T'.setTop { g with pc := g.pc + len, stack := v.toList ++ g.stack })) ∨
    (∃ (q : Addr) (st₀ t T' : State) (L : List Loc) (E : String) (ce : Cell), st₀.heap = T.heap ∧ Stand p l e R s m args below meth c T' (locs ++ L) (cells + mc) (slots + ms) ∧ (∀ z ∈ L, free z.base) ∧ T'.heap = t.heap ∧ T'.vm = t.vm ∧ XC E q st₀ t ∧ t.heap[q]? = some ce ∧ ce.vm = .none ∧ T.vm.findClass E = some ce.cls ∧
      ∀ acts, Steps p.tables e below (doInvoke e (T.setTop g) acts mk #[.ref a, x]).1 ((T'.setTop g).pushFrame (.throwing q))) := by
  rcases em_enter X hg hsize hdg #[.ref a, x] (R' := R') hmk hck hlk hpk hframes (by rw [hml]; omega) (by omega) (by omega)
    (Qc := fun _ _ o t' => ∃ v st₀ t9, o = .returned v ∧ st₀.heap = T.heap ∧ t'.heap = t9.heap ∧ t'.vm = t9.vm ∧ Qc #[x] st₀ (.returned v) t9)
    (XC := fun E q _ t' => ∃ st₀ t9, st₀.heap = T.heap ∧ t'.heap = t9.heap ∧ t'.vm = t9.vm ∧ XC E q st₀ t9) (mc := mc) (ms := ms) (free := free) (by
      intro Y₀
      generalize hU : (T.setTop g).pushFrame (.java (entryFrame mk #[.ref a, x] ck.maxLocals)) = U at Y₀ ⊢
      have hvm : U.vm = T.vm := by rw [← hU]; rfl
      have hheap : U.heap = T.heap := by rw [← hU]; rfl
      have hs : U.topJava?.isSome := Y₀.here.top
      have hK : vx_Back l R' p e (.java g :: below) (T.calling g mk #[.ref a, x]) #[.ref a, x] y 3 0 (PreOf R' mc ms Pc) (PostOf Qc mc ms free) (vx_Post XC mc ms free) := vx_back (bytes := bytes) (maxL := maxL) (ret := ret) hM hblind hrc hrs hR1 (by omega) (fun w h a' U hW => hws w h a' U hW) hcode (fun a' U hW => hini a' U hW)
      have hloc : entryFrame mk #[.ref a, x] ck.maxLocals = { method := mk, pc := 0, locals := #[.val (.ref a), .val x], stack := [], locked := none } := by rw [hml]; rcases hi0 with ⟨-, z, rfl⟩ | ⟨-, z, rfl⟩ <;> rfl
      have hyU : U.methodNamed? y = some t := by
        have e1 : (T.setVm U.vm).methodNamed? y = some t := by rw [hvm]; exact hy
        exact e1
      rw [hloc]
      have back := hK mk methk ck ⟨U, [], 0, 0⟩ { method := mk, pc := 1, locals := #[.val (.ref a), .val x], stack := [], locked := none } (.invokestatic ix) t #[x] Y₀ rfl (by rw [hml]; rfl) hd1 (Nat.le_refl 0) hyU ⟨by show 0 + mc ≤ R'.cells; omega, by show 0 + ms ≤ R'.slots; omega, hPc U hheap hvm⟩
      have pre : ∀ target, (∀ acts', Steps p.tables e (.java g :: below) (doInvoke e (U.setTop { method := mk, pc := 1, locals := #[.val (.ref a), .val x], stack := [], locked := none }) acts' t #[x]).1 target) → Steps p.tables e (.java g :: below) (U.setTop { method := mk, pc := 0, locals := #[.val (.ref a), .val x], stack := [], locked := none }) target := by
        intro target hrest
        rcases hi0 with ⟨rfl, z, rfl⟩ | ⟨rfl, z, rfl⟩
        · jvm_step Y₀.here [hexec, hd0]
          jvm_step Y₀.here [hexec, hd1, invokestatic.wp_ready (e := e) (s := U) (m := t) (k := kt) (meth := metht) (args := [.int z]) (rest := [])
            (f := { method := mk, pc := 1, locals := #[.val (.ref a), .val (.int z)], stack := [.int z], locked := none }) hs (by rw [← hU]; exact href) (by rw [hvm]; exact hready) (by rw [hvm]; exact hkt) (by rw [hvm]; exact hmt) hpoly hstatic hinit hpar.symm rfl]
          exact hrest
        · jvm_step Y₀.here [hexec, hd0, Value.isRef]
          jvm_step Y₀.here [hexec, hd1, invokestatic.wp_ready (e := e) (s := U) (m := t) (k := kt) (meth := metht) (args := [.ref z]) (rest := [])
            (f := { method := mk, pc := 1, locals := #[.val (.ref a), .val (.ref z)], stack := [.ref z], locked := none }) hs (by rw [← hU]; exact href) (by rw [hvm]; exact hready) (by rw [hvm]; exact hkt) (by rw [hvm]; exact hmt) hpoly hstatic hinit hpar.symm rfl]
          exact hrest
      rcases back with ⟨v, ⟨B, Lb, cb, sb⟩, Y₁, ⟨g', mk', t9, L, e1, e2, hq, h1, hL, h2, h3⟩, st⟩ | ⟨q, ⟨B, Lb, cb, sb⟩, Y₁, ⟨g', mk', t9, L, E, ce, e1, e2, hx, hce, hcv, hcl, h1, hL, h2, h3⟩, st⟩
      · dsimp only [Pt.U, Pt.locs, Pt.cells, Pt.slots] at Y₁ e1 e2 h1 h2 h3 st
        obtain ⟨r, hr, hn⟩ := hQ _ _ _ _ hq
        obtain rfl : v = some (.int r) := Outcome.returned.inj hr
        obtain ⟨fs, hleave, hrun, hended, hWe, hsame⟩ := Y₁.leave (v := some (.int r)) (fun h => by rw [hretk] at h; cases h) hlk
        refine ⟨B.setFrames fs, pre _ fun acts' => ?_, .returned (some (.int r)), hrun, hended, Or.inl ⟨⟨_, (U.calling g' mk' #[x]), t9, rfl, hheap, e1, e2, hq⟩, Lb, ⟨⟨_, rfl⟩, hWe, ?_⟩, ?_⟩⟩
        · refine Steps.trans (by rw [doInvoke_state]; exact st) ?_
          show Steps p.tables e (.java g :: below) (B.setTop { method := mk, pc := 4, locals := #[.val (.ref a), .val x], stack := [.int r], locked := none }) _
          jvm_step Y₁.here [Y₁.here.top, hexec, hd4, Y₁.method', hretk, hn]
          intro acts''
          rw [hleave { method := mk, pc := 4, locals := #[.val (.ref a), .val x], stack := [], locked := none } acts'' rfl rfl rfl]
          exact Steps.refl _
        · have e3 : mc = cb := by omega
          have e4 : ms = sb := by omega
          rw [e3, e4]
          exact hsame
        · rw [h1]
          exact hL
      · dsimp only [Pt.U, Pt.locs, Pt.cells, Pt.slots] at Y₁ e1 e2 h1 h2 h3 st hcl
        obtain ⟨st1, hrun, hend, hW, hsm⟩ := Y₁.leaveThrown q (g := { method := mk, pc := 1, locals := #[.val (.ref a), .val x], stack := [], locked := none }) rfl rfl rfl (fun z hz => (hex z hz).elim) hlk
        refine ⟨_, pre _ fun acts' => Steps.trans (by rw [doInvoke_state]; exact st) st1, .threw q, hrun, hend, Or.inr ⟨q, rfl, E, ce, Lb, ⟨(U.calling g' mk' #[x]), t9, hheap, e1, e2, hx⟩, ?_, hcv, ?_, hW, ?_, ?_⟩⟩
        · show B.heap[q]? = some ce
          rw [e1]
          exact hce
        · show T.vm.findClass E = some ce.cls
          rw [← hvm]
          exact hcl
        · exact hsm.mono (by omega) (by omega)
        · rw [h1]
          exact hL) with ⟨v, T', t', L, X', hL, e1, e2, ⟨v9, st₀, t9, hv, hh, e3, e4, hq⟩, st⟩ | ⟨q, T', t', L, E, ce, X', hL, e1, e2, ⟨st₀, t9, hh, e3, e4, hx⟩, hce, hcv, hcl, st⟩
  · obtain rfl : v = v9 := Outcome.returned.inj hv
    exact Or.inl ⟨v, st₀, t9, T', L, hh, X', hL, e1.trans e3, e2.trans e4, hq, st⟩
  · exact Or.inr ⟨q, st₀, t9, T', L, E, ce, hh, X', hL, e1.trans e3, e2.trans e4, hx, by rw [← e3]; exact hce, hcv, hcl, st⟩
/-- a forwarder to a body of what it captured -/
theorem em_fwdV (X : Stand p l e R s m args below meth c T locs cells slots) (hexec : p.tables.exec = Jvm.exec) {g : JFrame} (hg : g.method = m) (hsize : g.locals.size = c.maxLocals) {ig : Instr} {len : Nat} (hdg : decode c.code g.pc = .ok (ig, len))
    {mk : MethodId} {methk : Method} {ck : Code} (hmk : T.vm.method? mk = some methk) (hck : methk.code = some ck) (hml : ck.maxLocals = 2) (hlk : methk.locks = false) (hpk : T.plainMethod mk) (hex : ∀ z ∈ ck.exceptionTable.toList, False)
    {ty : FieldType} (hretk : methk.sig.returnType = some ty)
    {a : Addr} {x : Value} {i0 : Instr} {fx ix : Nat} (hd0 : decode ck.code 0 = .ok (.aload_n 0, 1)) (hd1 : decode ck.code 1 = .ok (.getfield fx, 3)) (hd4 : decode ck.code 4 = .ok (i0, 1)) (hi0 : (i0 = .iload_n 1 ∧ ∃ z, x = .int z) ∨ (i0 = .aload_n 1 ∧ ∃ b, x = .ref b)) (hd5 : decode ck.code 5 = .ok (.invokevirtual ix, 3)) (hd8 : decode ck.code 8 = .ok (.ireturn, 1))
    {b : Addr} {cellK : Cell} {f1 : Field} (hcellK : T.heap[a]? = some cellK) (hknown : cellK.vm ≠ .unknown) (hf1 : T.vm.fieldReady mk.cls fx mk.cls f1) (hf1s : f1.isStatic = false) (hslot1 : cellK.slots[f1.slot]? = some (.ref b))
    {r t : MethodId} {kr kt : Class} {methr metht : Method} {cellB : Cell} (hnamed : namesAClass T mk.cls ix) (hready : T.vm.methodReady mk.cls ix r) (hkr : T.vm.classes[r.cls]? = some kr) (hmr : T.vm.method? r = some methr)
    (hpoly : signaturePolymorphic kr methr = false) (hstatic : methr.isStatic = false) (hpar : methr.sig.parameters.length = 1)
    (hcellB : T.heap[b]? = some cellB) (hobjB : ∀ k, cellB.vm ≠ .statics k) (hsel : selectMethod e.platform T.vm cellB.cls r = .method t) (hmt : T.vm.method? t = some metht) (habs : metht.isAbstract = false)
    (hkt : T.vm.classes[t.cls]? = some kt) (hitf : kt.isInterface = false)
    {y : MethodName} (hy : T.methodNamed? y = some t) {ws : List Cond} {rm R' : Room} {Pc : Array Value → State → Prop} {Qc : Array Value → State → Outcome → State → Prop} {XC : String → Addr → State → State → Prop} {mc ms : Nat} {free : Addr → Prop} {bytes : ByteArray} {maxL : Nat} {ret : Option FieldType}
    (hM : vx_Met l y ws rm Pc Qc XC mc ms free) (hblind : FrameBlind Pc) (hrc : rm.cells = mc) (hrs : rm.slots = ms)
    (hws : ∀ w ∈ ws, ∀ (a' : Array Value) (U : State), T.WarmedH U.vm → w.before a' U = true) (hcode : Cond.code y bytes maxL ret ∈ ws) (hini : ∀ (a' : Array Value) (U : State), T.WarmedH U.vm → (Cond.initialized y.cls).before a' U = true)
    (hPc : ∀ U : State, U.heap = T.heap → U.vm = T.vm → Pc #[.ref b, x] U)
    (hQ : ∀ a st o t, Qc a st o t → ∃ r : Int32, o = .returned (some (.int r)) ∧ narrow ty (.int r) = .int r)
    (hR1 : rm.frames + 1 ≤ R'.frames) (hR2 : maxL + 11 + rm.locals ≤ R'.locals) (hframes : R'.frames + 1 ≤ R.frames) (hlocals : 2 * g.monitorRoom + (g.stack.map fun v => v.category).sum + 13 + R'.locals ≤ R.locals) (hRc : R'.cells = mc) (hRs : R'.slots = ms) (hcells : cells + mc ≤ R.cells) (hslots : slots + ms ≤ R.slots) :
    (∃ (v : Option Value) (st₀ t T' : State) (L : List Loc), st₀.heap = T.heap ∧ Stand p l e R s m args below meth c T' (locs ++ L) (cells + mc) (slots + ms) ∧ (∀ q ∈ L, free q.base) ∧ T'.heap = t.heap ∧ T'.vm = t.vm ∧ Qc #[.ref b, x] st₀ (.returned v) t ∧
      ∀ acts, Steps p.tables e below (doInvoke e (T.setTop g) acts mk #[.ref a, x]).1 (T'.setTop { g with pc := g.pc + len, stack := v.toList ++ g.stack })) ∨
    (∃ (q : Addr) (st₀ t T' : State) (L : List Loc) (E : String) (ce : Cell), st₀.heap = T.heap ∧ Stand p l e R s m args below meth c T' (locs ++ L) (cells + mc) (slots + ms) ∧ (∀ z ∈ L, free z.base) ∧ T'.heap = t.heap ∧ T'.vm = t.vm ∧ XC E q st₀ t ∧ t.heap[q]? = some ce ∧ ce.vm = .none ∧ T.vm.findClass E = some ce.cls ∧
      ∀ acts, Steps p.tables e below (doInvoke e (T.setTop g) acts mk #[.ref a, x]).1 ((T'.setTop g).pushFrame (.throwing q))) := by
  rcases em_enter X hg hsize hdg #[.ref a, x] (R' := R') hmk hck hlk hpk hframes (by rw [hml]; omega) (by omega) (by omega)
    (Qc := fun _ _ o t' => ∃ v st₀ t9, o = .returned v ∧ st₀.heap = T.heap ∧ t'.heap = t9.heap ∧ t'.vm = t9.vm ∧ Qc #[.ref b, x] st₀ (.returned v) t9)
    (XC := fun E q _ t' => ∃ st₀ t9, st₀.heap = T.heap ∧ t'.heap = t9.heap ∧ t'.vm = t9.vm ∧ XC E q st₀ t9) (mc := mc) (ms := ms) (free := free) (by
      intro Y₀
      generalize hU : (T.setTop g).pushFrame (.java (entryFrame mk #[.ref a, x] ck.maxLocals)) = U at Y₀ ⊢
      have hvm : U.vm = T.vm := by rw [← hU]; rfl
      have hheap : U.heap = T.heap := by rw [← hU]; rfl
      have hs : U.topJava?.isSome := Y₀.here.top
      have hK : vx_Back l R' p e (.java g :: below) (T.calling g mk #[.ref a, x]) #[.ref a, x] y 3 0 (PreOf R' mc ms Pc) (PostOf Qc mc ms free) (vx_Post XC mc ms free) := vx_back (bytes := bytes) (maxL := maxL) (ret := ret) hM hblind hrc hrs hR1 (by omega) (fun w h a' U hW => hws w h a' U hW) hcode (fun a' U hW => hini a' U hW)
      have hloc : entryFrame mk #[.ref a, x] ck.maxLocals = { method := mk, pc := 0, locals := #[.val (.ref a), .val x], stack := [], locked := none } := by rw [hml]; rcases hi0 with ⟨-, z, rfl⟩ | ⟨-, z, rfl⟩ <;> rfl
      have hyU : U.methodNamed? y = some t := by
        have e1 : (T.setVm U.vm).methodNamed? y = some t := by rw [hvm]; exact hy
        exact e1
      rw [hloc]
      have back := hK mk methk ck ⟨U, [], 0, 0⟩ { method := mk, pc := 5, locals := #[.val (.ref a), .val x], stack := [], locked := none } (.invokevirtual ix) t #[.ref b, x] Y₀ rfl (by rw [hml]; rfl) hd5 (Nat.le_refl 0) hyU ⟨by show 0 + mc ≤ R'.cells; omega, by show 0 + ms ≤ R'.slots; omega, hPc U hheap hvm⟩
      have pre : ∀ target, (∀ acts', Steps p.tables e (.java g :: below) (doInvoke e (U.setTop { method := mk, pc := 5, locals := #[.val (.ref a), .val x], stack := [], locked := none }) acts' t #[.ref b, x]).1 target) → Steps p.tables e (.java g :: below) (U.setTop { method := mk, pc := 0, locals := #[.val (.ref a), .val x], stack := [], locked := none }) target := by
        intro target hrest
        rcases hi0 with ⟨rfl, z, rfl⟩ | ⟨rfl, z, rfl⟩
        · jvm_step Y₀.here [hexec, hd0, Value.isRef]
          jvm_step Y₀.here [hexec, hd1, getfield.wp_ready (e := e) (s := U) (c := mk.cls) (field := f1) (a := a) (rest := []) (cell := cellK) (v := .ref b)
            (f := { method := mk, pc := 1, locals := #[.val (.ref a), .val (.int z)], stack := [.ref a], locked := none }) hs (by rw [hvm]; exact hf1) hf1s rfl (by rw [hheap]; exact hcellK) hknown hslot1]
          jvm_step Y₀.here [hexec, hd4]
          jvm_step Y₀.here [hexec, hd5, invokevirtual.wp_ready (e := e) (s := U) (r := r) (m := t) (k := kr) (mk := kt) (rmeth := methr) (meth := metht) (a := b) (args := [.int z]) (rest := []) (cell := cellB)
            (f := { method := mk, pc := 5, locals := #[.val (.ref a), .val (.int z)], stack := [.int z, .ref b], locked := none }) hs (by rw [← hU]; exact hnamed) (by rw [hvm]; exact hready) (by rw [hvm]; exact hkr) (by rw [hvm]; exact hmr) hpoly hstatic hpar.symm rfl
            (by rw [hheap]; exact hcellB) hobjB (by rw [hvm]; exact hsel) (by rw [hvm]; exact hmt) habs (by rw [hvm]; exact hkt) hitf]
          exact hrest
        · jvm_step Y₀.here [hexec, hd0, Value.isRef]
          jvm_step Y₀.here [hexec, hd1, getfield.wp_ready (e := e) (s := U) (c := mk.cls) (field := f1) (a := a) (rest := []) (cell := cellK) (v := .ref b)
            (f := { method := mk, pc := 1, locals := #[.val (.ref a), .val (.ref z)], stack := [.ref a], locked := none }) hs (by rw [hvm]; exact hf1) hf1s rfl (by rw [hheap]; exact hcellK) hknown hslot1]
          jvm_step Y₀.here [hexec, hd4, Value.isRef]
          jvm_step Y₀.here [hexec, hd5, invokevirtual.wp_ready (e := e) (s := U) (r := r) (m := t) (k := kr) (mk := kt) (rmeth := methr) (meth := metht) (a := b) (args := [.ref z]) (rest := []) (cell := cellB)
            (f := { method := mk, pc := 5, locals := #[.val (.ref a), .val (.ref z)], stack := [.ref z, .ref b], locked := none }) hs (by rw [← hU]; exact hnamed) (by rw [hvm]; exact hready) (by rw [hvm]; exact hkr) (by rw [hvm]; exact hmr) hpoly hstatic hpar.symm rfl
            (by rw [hheap]; exact hcellB) hobjB (by rw [hvm]; exact hsel) (by rw [hvm]; exact hmt) habs (by rw [hvm]; exact hkt) hitf]
          exact hrest
      rcases back with ⟨v, ⟨B, Lb, cb, sb⟩, Y₁, ⟨g', mk', t9, L, e1, e2, hq, h1, hL, h2, h3⟩, st⟩ | ⟨q, ⟨B, Lb, cb, sb⟩, Y₁, ⟨g', mk', t9, L, E, ce, e1, e2, hx, hce, hcv, hcl, h1, hL, h2, h3⟩, st⟩
      · dsimp only [Pt.U, Pt.locs, Pt.cells, Pt.slots] at Y₁ e1 e2 h1 h2 h3 st
        obtain ⟨r, hr, hn⟩ := hQ _ _ _ _ hq
        obtain rfl : v = some (.int r) := Outcome.returned.inj hr
        obtain ⟨fs, hleave, hrun, hended, hWe, hsame⟩ := Y₁.leave (v := some (.int r)) (fun h => by rw [hretk] at h; cases h) hlk
        refine ⟨B.setFrames fs, pre _ fun acts' => ?_, .returned (some (.int r)), hrun, hended, Or.inl ⟨⟨_, (U.calling g' mk' #[.ref b, x]), t9, rfl, hheap, e1, e2, hq⟩, Lb, ⟨⟨_, rfl⟩, hWe, ?_⟩, ?_⟩⟩
        · refine Steps.trans (by rw [doInvoke_state]; exact st) ?_
          show Steps p.tables e (.java g :: below) (B.setTop { method := mk, pc := 8, locals := #[.val (.ref a), .val x], stack := [.int r], locked := none }) _
          jvm_step Y₁.here [Y₁.here.top, hexec, hd8, Y₁.method', hretk, hn]
          intro acts''
          rw [hleave { method := mk, pc := 8, locals := #[.val (.ref a), .val x], stack := [], locked := none } acts'' rfl rfl rfl]
          exact Steps.refl _
        · have e3 : mc = cb := by omega
          have e4 : ms = sb := by omega
          rw [e3, e4]
          exact hsame
        · rw [h1]
          exact hL
      · dsimp only [Pt.U, Pt.locs, Pt.cells, Pt.slots] at Y₁ e1 e2 h1 h2 h3 st hcl
        obtain ⟨st1, hrun, hend, hW, hsm⟩ := Y₁.leaveThrown q (g := { method := mk, pc := 5, locals := #[.val (.ref a), .val x], stack := [], locked := none }) rfl rfl rfl (fun z hz => (hex z hz).elim) hlk
        refine ⟨_, pre _ fun acts' => Steps.trans (by rw [doInvoke_state]; exact st) st1, .threw q, hrun, hend, Or.inr ⟨q, rfl, E, ce, Lb, ⟨(U.calling g' mk' #[.ref b, x]), t9, hheap, e1, e2, hx⟩, ?_, hcv, ?_, hW, ?_, ?_⟩⟩
        · show B.heap[q]? = some ce
          rw [e1]
          exact hce
        · show T.vm.findClass E = some ce.cls
          rw [← hvm]
          exact hcl
        · exact hsm.mono (by omega) (by omega)
        · rw [h1]
          exact hL) with ⟨v, T', t', L, X', hL, e1, e2, ⟨v9, st₀, t9, hv, hh, e3, e4, hq⟩, st⟩ | ⟨q, T', t', L, E, ce, X', hL, e1, e2, ⟨st₀, t9, hh, e3, e4, hx⟩, hce, hcv, hcl, st⟩
  · obtain rfl : v = v9 := Outcome.returned.inj hv
    exact Or.inl ⟨v, st₀, t9, T', L, hh, X', hL, e1.trans e3, e2.trans e4, hq, st⟩
  · exact Or.inr ⟨q, st₀, t9, T', L, E, ce, hh, X', hL, e1.trans e3, e2.trans e4, hx, by rw [← e3]; exact hce, hcv, hcl, st⟩
end EML
