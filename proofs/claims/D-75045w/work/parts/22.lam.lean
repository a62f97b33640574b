/-! SOUNDNESS of lambdas: the made class's second method forwards to the body -/
theorem em_weaken {tb : Tables} {e : Env} {mid below : List Frame} {a b : State} (h : Steps tb e (mid ++ below) a b) : Steps tb e below a b := by
  obtain ⟨n, hn, w⟩ := h
  exact ⟨n, hn, fun k hk => (w k hk).weaken⟩
section EML
variable {p : Program} {l : Launch} {e : Env} {R : Room} {s : State} {m : MethodId} {args : Array Value} {below : List Frame} {meth : Method} {c : Code} {T : State} {locs : List Loc} {cells slots : Nat}
/-- into a method by its number, and out of it -/
theorem em_enter (X : Stand p l e R s m args below meth c T locs cells slots) {g : JFrame} (hg : g.method = m) (hsize : g.locals.size = c.maxLocals) {ig : Instr} {len : Nat} (hdg : decode c.code g.pc = .ok (ig, len))
    {mk : MethodId} {methk : Method} {ck : Code} (a : Array Value) {R' : Room} (hmk : T.vm.method? mk = some methk) (hck : methk.code = some ck) (hlk : methk.locks = false) (hpk : T.plainMethod mk)
    (hframes : R'.frames + 1 ≤ R.frames) (hlocals : 2 * g.monitorRoom + (g.stack.map fun v => v.category).sum + (ck.maxLocals + 11) + R'.locals ≤ R.locals) (hcells : cells + R'.cells ≤ R.cells) (hslots : slots + R'.slots ≤ R.slots)
    {Qc : Array Value → State → Outcome → State → Prop} {XC : String → Addr → State → State → Prop} {mc ms : Nat} {free : Addr → Prop}
    (k : Stand p l e R' (T.calling g mk a) mk a (.java g :: below) methk ck ((T.setTop g).pushFrame (.java (entryFrame mk a ck.maxLocals))) [] 0 0 →
      ∃ t, Steps p.tables e (.java g :: below) (((T.setTop g).pushFrame (.java (entryFrame mk a ck.maxLocals))).setTop (entryFrame mk a ck.maxLocals)) t ∧ vx_MQ (.java g :: below) Qc XC a (T.calling g mk a) mc ms free t) :
    (∃ (v : Option Value) (T' t : State) (L : List Loc), Stand p l e R s m args below meth c T' (locs ++ L) (cells + mc) (slots + ms) ∧ (∀ q ∈ L, free q.base) ∧ T'.heap = t.heap ∧ T'.vm = t.vm ∧ Qc a (T.calling g mk a) (.returned v) t ∧
      ∀ acts, Steps p.tables e below (doInvoke e (T.setTop g) acts mk a).1 (T'.setTop { g with pc := g.pc + len, stack := v.toList ++ g.stack })) ∨
    (∃ (q : Addr) (T' t : State) (L : List Loc) (E : String) (ce : Cell), Stand p l e R s m args below meth c T' (locs ++ L) (cells + mc) (slots + ms) ∧ (∀ z ∈ L, free z.base) ∧ T'.heap = t.heap ∧ T'.vm = t.vm ∧ XC E q (T.calling g mk a) t ∧ t.heap[q]? = some ce ∧ ce.vm = .none ∧ T.vm.findClass E = some ce.cls ∧
      ∀ acts, Steps p.tables e below (doInvoke e (T.setTop g) acts mk a).1 ((T'.setTop g).pushFrame (.throwing q))) := by
  obtain ⟨Y₀, hin⟩ := X.into hg hsize hdg a (R' := R') hmk hck hlk hpk hframes hlocals hcells hslots
  obtain ⟨t, hst, o, hrun, hend, hq⟩ := k Y₀
  rcases hq with ⟨hqc, L, hfe, hL⟩ | ⟨q, rfl, E, ce, L, hx, hce, hcv, hcl, hW₂, hsm, hL⟩
  · obtain ⟨⟨v, rfl⟩, hW₂, hsame⟩ := hfe
    obtain ⟨T', X', hW', -, ht⟩ := X.outOf hg hdg hend hW₂ hsame
    refine Or.inl ⟨v, T', t, L, X', hL, by rw [ht]; rfl, by rw [ht]; rfl, hqc, fun acts => ?_⟩
    rw [hin acts, ← ht]
    exact em_weaken (mid := [.java g]) hst
  · obtain ⟨T', X', hW', -, ht⟩ := X.outOfThrown hg hend hW₂ hsm
    refine Or.inr ⟨q, T', t, L, E, ce, X', hL, by rw [ht]; rfl, by rw [ht]; rfl, hx, hce, hcv, hcl, fun acts => ?_⟩
    rw [hin acts, ← ht]
    exact em_weaken (mid := [.java g]) hst
end EML
