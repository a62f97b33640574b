/-! SOUNDNESS of the pure machine's steps, one by one -/
def em_ck : em_C → Nat
  | .inl o => o.1
  | .inr r => r.1
/-- the real machine's heap has this cell there (D: the numbers of the known kinds; dA: those of the arrays' and the lambdas') -/
def em_cok (D : va_G) (dA : Nat → ClassId) (aty : Nat → FieldType) (cl : List vw_C) (H : Heap) (a : Nat) : em_C → Prop
  | .inl o => (∃ r : vw_C, cl[o.1 % 1000]? = some r ∧ o.2.length = r.2.2 ∧ t_OB a (D.1 (o.1 % 1000)) r.2.2 (D.2 (o.1 % 1000)) H (vp_V o.2)) ∨ (900 ≤ o.1 % 1000 ∧ ∃ cell : Cell, H[a]? = some cell ∧ cell.cls = dA (o.1 % 1000) ∧ cell.vm = .none ∧ cell.slots = o.2.toArray)
  | .inr r => (r.1 % 1000 < 100 ∧ ∀ j, j < r.2.1 → fits (aty (r.1 % 1000)) (r.2.2 j) = true) ∧ ∃ cell : Cell, H[a]? = some cell ∧ cell.cls = dA (r.1 % 1000) ∧ (∀ q, cell.vm ≠ .statics q) ∧ cell.vm ≠ .unknown ∧ cell.slots.size = r.2.1 ∧ (∀ j, j < r.2.1 → cell.slots[j]? = some (r.2.2 j)) ∧ (r.1 < 1000 → cell = arrV (dA (r.1 % 1000)) r.2.1 r.2.2)
theorem em_cok.kept {D : va_G} {dA : Nat → ClassId} {aty : Nat → FieldType} {cl : List vw_C} {H H1 : Heap} {a : Nat} {c : em_C} (h : em_cok D dA aty cl H a c) (e : H1[a]? = H[a]?) : em_cok D dA aty cl H1 a c := by
  cases c with
  | inl o =>
    rcases h with ⟨r, h1, h2, h3⟩ | ⟨h0, cell, h1, h2⟩
    · exact Or.inl ⟨r, h1, h2, h3.kept e⟩
    · exact Or.inr ⟨h0, cell, e.trans h1, h2⟩
  | inr r =>
    obtain ⟨h0, cell, h1, h2⟩ := h
    exact ⟨h0, cell, e.trans h1, h2⟩
theorem em_cok.lt {D : va_G} {dA : Nat → ClassId} {aty : Nat → FieldType} {cl : List vw_C} {H : Heap} {a : Nat} {c : em_C} (h : em_cok D dA aty cl H a c) : a < H.size := by
  cases c with
  | inl o =>
    rcases h with ⟨r, h1, h2, cell, h3, -⟩ | ⟨h0, cell, h1, h2⟩
    · exact (Array.getElem?_eq_some_iff.mp h3).1
    · exact (Array.getElem?_eq_some_iff.mp h1).1
  | inr r =>
    obtain ⟨h0, cell, h1, h2⟩ := h
    exact (Array.getElem?_eq_some_iff.mp h1).1
/-- the heap holds the world; what lies below 'base' is as it was in H00 -/
def em_wok (D : va_G) (dA : Nat → ClassId) (aty : Nat → FieldType) (cl : List vw_C) (base : Nat) (H00 : Heap) (w : em_W) (H : Heap) : Prop := H.size = w.1 ∧ base ≤ w.1 ∧ (∀ a, a < base → H[a]? = H00[a]?) ∧ ∀ a c, w.2.2 a = some c → em_cok D dA aty cl H a c ∧ (em_ck c < 1000 → base ≤ a)
theorem em_wok.set {D : va_G} {dA : Nat → ClassId} {aty : Nat → FieldType} {cl : List vw_C} {base : Nat} {H00 : Heap} {w : em_W} {H H1 : Heap} {a : Nat} {c : em_C} (h : em_wok D dA aty cl base H00 w H) (hb : base ≤ a) (hz : H1.size = H.size) (hc : em_cok D dA aty cl H1 a c) (ho : ∀ q, q ≠ a → H1[q]? = H[q]?) : em_wok D dA aty cl base H00 (em_set w a c) H1 := by
  refine ⟨hz.trans h.1, h.2.1, fun q hq => (ho q (by omega)).trans (h.2.2.1 q hq), fun b c' e => ?_⟩
  unfold em_set at e
  dsimp only at e
  by_cases q : b = a
  · rw [if_pos q] at e
    cases e
    subst q
    exact ⟨hc, fun _ => hb⟩
  · rw [if_neg q] at e
    exact ⟨(h.2.2.2 b c' e).1.kept (ho b q), (h.2.2.2 b c' e).2⟩
theorem em_wok.new {D : va_G} {dA : Nat → ClassId} {aty : Nat → FieldType} {cl : List vw_C} {base : Nat} {H00 : Heap} {w : em_W} {H H1 : Heap} {c : em_C} {n : Nat} (h : em_wok D dA aty cl base H00 w H) (hz : H1.size = H.size + 1) (hc : em_cok D dA aty cl H1 H.size c) (ho : ∀ q, q < H.size → H1[q]? = H[q]?) : em_wok D dA aty cl base H00 (em_new w c n) H1 := by
  refine ⟨by rw [hz, h.1]; rfl, Nat.le_succ_of_le h.2.1, fun q hq => (ho q (by rw [h.1]; exact Nat.lt_of_lt_of_le hq h.2.1)).trans (h.2.2.1 q hq), fun b c' e => ?_⟩
  unfold em_new at e
  dsimp only at e
  by_cases q : b = w.1
  · rw [if_pos q] at e
    cases e
    subst q
    rw [← h.1]
    exact ⟨hc, fun _ => by rw [h.1]; exact h.2.1⟩
  · rw [if_neg q] at e
    have hk := (h.2.2.2 b c' e).1
    exact ⟨hk.kept (ho b hk.lt), (h.2.2.2 b c' e).2⟩
/-- what the tables say of a kind of array: its component, its name -/
def em_ka (dA : Nat → ClassId) (aty : Nat → FieldType) (U : State) (k : Nat) : Prop := ∃ (kA : Class) (comp : ClassId), U.vm.classes[dA k]? = some kA ∧ kA.kind = .array comp (aty k)
theorem em_ka.isA {dA : Nat → ClassId} {aty : Nat → FieldType} {U : State} {k : Nat} (h : em_ka dA aty U k) {cell : Cell} (hc : cell.cls = dA k) (hv : ∀ q, cell.vm ≠ .statics q) : U.isArrayOf cell (aty k) := by
  obtain ⟨kA, comp, h1, h2⟩ := h
  exact ⟨hv, kA, by rw [hc]; exact h1, comp, h2⟩
def em_cf (cl : List vw_C) : Prop := cl.length ≤ 100 ∧ ∀ (k : Nat) (r : vw_C), cl[k]? = some r → (∀ w ∈ u_ws r.1 r.2.1 r.2.2, w ∈ lw_all) ∧ (∃ ty : Nat → FieldType, ∀ j, j < r.2.2 → parseFieldDescriptor (r.2.1 j).2.2.1 = some (ty j)) ∧ (∀ a, a < r.2.2 → ∀ b, b < r.2.2 → a ≠ b → (r.2.1 a).2.1 ≠ (r.2.1 b).2.1)
/-- the machine's side that stays through a method -/
def em_Cx (p : Program) (s : State) (m : MethodId) (args : Array Value) (c : Code) (cc : ByteArray) (own : String) (nL : Nat) (D : va_G) (cl : List vw_C) : Prop := p.tables.exec = Jvm.exec ∧ c.code = cc ∧ s.vm.findClass own = some m.cls ∧ (∀ w ∈ lw_all, w.before args s = true) ∧ c.maxLocals = nL ∧ va_K D cl [] s ∧ em_cf cl
section EMS
variable {p : Program} {l : Launch} {e : Env} {R : Room} {s : State} {m : MethodId} {args : Array Value} {below : List Frame} {meth : Method} {c : Code} {Q : State → Prop}
variable {D : va_G} {dA : Nat → ClassId} {aty : Nat → FieldType} {cl : List vw_C} {base nL s0 : Nat} {H00 : Heap} {cc : ByteArray} {own : String} {w : em_W} {ls st : List Value} {pc n : Nat}
/-- from a place of the pure machine the real one comes to Q -/
def em_GG (p : Program) (l : Launch) (e : Env) (R : Room) (s : State) (m : MethodId) (args : Array Value) (below : List Frame) (meth : Method) (c : Code) (Q : State → Prop) (D : va_G) (dA : Nat → ClassId) (aty : Nat → FieldType) (cl : List vw_C) (base nL s0 : Nat) (H00 : Heap) (w : em_W) (ls : List Value) (pc : Nat) (st : List Value) : Prop :=
  ∀ (lsM : Array Slot) (H : Heap) (locs : List Loc) (cells slots : Nat), em_LR lsM nL ls → em_wok D dA aty cl base H00 w H → (∀ z ∈ locs, base ≤ z.base) → s.heap.size + cells = w.1 → s0 + slots = w.2.1 → W p l e R s m args below meth c H locs cells slots Q (F0 m pc lsM st)
theorem em_nx_inv {a : Nat} {b c' : List Value} {pc' : Nat} {ls' st' : List Value} {h : em_H} (q : em_nx a b c' = some (.inr (.inl (pc', ls', st', h)))) : pc' = a ∧ ls' = b ∧ st' = c' ∧ h = .inl [] := by
  unfold em_nx at q
  cases q
  exact ⟨rfl, rfl, rfl, rfl⟩
theorem em_jp_inv {off : Int} {pc' : Nat} {ls' st' : List Value} {h : em_H} (q : em_jp pc off ls st = some (.inr (.inl (pc', ls', st', h)))) : (pc : Int) + off = (pc' : Int) ∧ ls' = ls ∧ st' = st ∧ h = .inl [] := by
  unfold em_jp at q
  split at q
  · obtain ⟨h1, h2⟩ := em_nx_inv q
    exact ⟨by omega, h2⟩
  · cases q
/-- a step that leaves the locals and the world -/
theorem em_plain {pc' : Nat} {st' : List Value} (kk : em_GG p l e R s m args below meth c Q D dA aty cl base nL s0 H00 w ls pc' st') (hr : ∀ (lsM : Array Slot) (H : Heap) (locs : List Loc) (cells slots : Nat), em_LR lsM nL ls → W p l e R s m args below meth c H locs cells slots Q (F0 m pc' lsM st') → W p l e R s m args below meth c H locs cells slots Q (F0 m pc lsM st)) : em_GG p l e R s m args below meth c Q D dA aty cl base nL s0 H00 w ls pc st :=
  fun lsM H locs cells slots h1 h2 h3 h4 h5 => hr lsM H locs cells slots h1 (kk lsM H locs cells slots h1 h2 h3 h4 h5)
theorem em_ld_inv {t k : Nat} {pc' : Nat} {ls' st' : List Value} {h : em_H} (q : em_ld t k pc n ls st = some (.inr (.inl (pc', ls', st', h)))) : ∃ v, ls[k]? = some v ∧ em_ty t v = true ∧ pc' = pc + n ∧ ls' = ls ∧ st' = v :: st ∧ h = .inl [] := by
  unfold em_ld at q
  split at q
  · rename_i v hv
    split at q
    · rename_i ht
      obtain ⟨a, b, c', d⟩ := em_nx_inv q
      exact ⟨v, hv, ht, a, b, c', d⟩
    · cases q
  · cases q
theorem em_sto_inv {t k : Nat} {pc' : Nat} {ls' st' : List Value} {h : em_H} (q : em_sto t k pc n ls st = some (.inr (.inl (pc', ls', st', h)))) : ∃ v, st = v :: st' ∧ em_ty t v = true ∧ em_fr ls k = true ∧ pc' = pc + n ∧ ls' = ls.set k v ∧ h = .inl [] := by
  unfold em_sto at q
  split at q
  · split at q
    · rename_i ht
      simp only [Bool.and_eq_true] at ht
      obtain ⟨a, b, c', d⟩ := em_nx_inv q
      exact ⟨_, by rw [c'], ht.1, ht.2, a, b, d⟩
    · cases q
  · cases q
theorem em_fr_lt {k : Nat} (h : em_fr ls k = true) : k < ls.length := by
  unfold em_fr at h
  split at h
  · rename_i v hv
    exact (List.getElem?_eq_some_iff.mp hv).1
  · cases h
theorem em_ty_0 {v : Value} (h : em_ty 0 v = true) : ∃ x, v = .int x := by
  cases v <;> first | exact ⟨_, rfl⟩ | cases h
theorem em_ty_1 {v : Value} (h : em_ty 1 v = true) : ∃ x, v = .long x := by
  cases v <;> first | exact ⟨_, rfl⟩ | cases h
theorem em_ty_2 {v : Value} (h : em_ty 2 v = true) : v = .null ∨ ∃ a, v = .ref a := by
  cases v <;> first | exact Or.inl rfl | exact Or.inr ⟨_, rfl⟩ | cases h
/-- the common form of a step: from what the evaluator does -/
abbrev em_Sp (p : Program) (l : Launch) (e : Env) (R : Room) (s : State) (m : MethodId) (args : Array Value) (below : List Frame) (meth : Method) (c : Code) (Q : State → Prop) (D : va_G) (dA : Nat → ClassId) (aty : Nat → FieldType) (cl : List vw_C) (base nL s0 : Nat) (H00 : Heap) (w : em_W) (ls st : List Value) (pc : Nat) (a : Option em_A) : Prop :=
  ∀ (pc' : Nat) (ls' st' : List Value) (h : em_H), a = some (.inr (.inl (pc', ls', st', h))) → (em_app w h).1 ≤ s.heap.size + R.cells → (em_app w h).2.1 ≤ s0 + R.slots → em_GG p l e R s m args below meth c Q D dA aty cl base nL s0 H00 (em_app w h) ls' pc' st' → em_GG p l e R s m args below meth c Q D dA aty cl base nL s0 H00 w ls pc st
theorem em_i_iload_n (C : em_Cx p s m args c cc own nL D cl) {k : Fin 4} (hd : decode cc pc = .ok (.iload_n k, 1)) : em_Sp p l e R s m args below meth c Q D dA aty cl base nL s0 H00 w ls st pc (em_ld 0 k pc 1 ls st) := by
  intro pc' ls' st' h q _ _ kk
  obtain ⟨v, hv, ht, rfl, rfl, rfl, rfl⟩ := em_ld_inv q
  obtain ⟨x, rfl⟩ := em_ty_0 ht
  exact em_plain kk fun lsM H locs cells slots hl k2 => lv_iload_n C.1 C.2.1 hd rfl (hl.at hv rfl) k2
theorem em_i_lload_n (C : em_Cx p s m args c cc own nL D cl) {k : Fin 4} (hd : decode cc pc = .ok (.lload_n k, 1)) : em_Sp p l e R s m args below meth c Q D dA aty cl base nL s0 H00 w ls st pc (em_ld 1 k pc 1 ls st) := by
  intro pc' ls' st' h q _ _ kk
  obtain ⟨v, hv, ht, rfl, rfl, rfl, rfl⟩ := em_ld_inv q
  obtain ⟨x, rfl⟩ := em_ty_1 ht
  exact em_plain kk fun lsM H locs cells slots hl k2 => lv_lload_n C.1 C.2.1 hd rfl (hl.at hv rfl) k2
theorem em_i_iload (C : em_Cx p s m args c cc own nL D cl) {k : Nat} (hd : decode cc pc = .ok (.iload k, 2)) : em_Sp p l e R s m args below meth c Q D dA aty cl base nL s0 H00 w ls st pc (em_ld 0 k pc 2 ls st) := by
  intro pc' ls' st' h q _ _ kk
  obtain ⟨v, hv, ht, rfl, rfl, rfl, rfl⟩ := em_ld_inv q
  obtain ⟨x, rfl⟩ := em_ty_0 ht
  exact em_plain kk fun lsM H locs cells slots hl k2 => lv_iload C.1 C.2.1 hd (hl.at hv rfl) k2
theorem em_i_lload (C : em_Cx p s m args c cc own nL D cl) {k : Nat} (hd : decode cc pc = .ok (.lload k, 2)) : em_Sp p l e R s m args below meth c Q D dA aty cl base nL s0 H00 w ls st pc (em_ld 1 k pc 2 ls st) := by
  intro pc' ls' st' h q _ _ kk
  obtain ⟨v, hv, ht, rfl, rfl, rfl, rfl⟩ := em_ld_inv q
  obtain ⟨x, rfl⟩ := em_ty_1 ht
  exact em_plain kk fun lsM H locs cells slots hl k2 => lv_lload C.1 C.2.1 hd (hl.at hv rfl) k2
theorem em_i_aload_n (C : em_Cx p s m args c cc own nL D cl) {k : Fin 4} (hd : decode cc pc = .ok (.aload_n k, 1)) : em_Sp p l e R s m args below meth c Q D dA aty cl base nL s0 H00 w ls st pc (em_ld 2 k pc 1 ls st) := by
  intro pc' ls' st' h q _ _ kk
  obtain ⟨v, hv, ht, rfl, rfl, rfl, rfl⟩ := em_ld_inv q
  rcases em_ty_2 ht with rfl | ⟨x, rfl⟩
  · exact em_plain kk fun lsM H locs cells slots hl k2 => lv_aload_nN C.1 C.2.1 hd rfl (hl.at hv rfl) k2
  · exact em_plain kk fun lsM H locs cells slots hl k2 => lv_aload_n C.1 C.2.1 hd rfl (hl.at hv rfl) k2
theorem em_i_aload (C : em_Cx p s m args c cc own nL D cl) {k : Nat} (hd : decode cc pc = .ok (.aload k, 2)) : em_Sp p l e R s m args below meth c Q D dA aty cl base nL s0 H00 w ls st pc (em_ld 2 k pc 2 ls st) := by
  intro pc' ls' st' h q _ _ kk
  obtain ⟨v, hv, ht, rfl, rfl, rfl, rfl⟩ := em_ld_inv q
  rcases em_ty_2 ht with rfl | ⟨x, rfl⟩
  · exact em_plain kk fun lsM H locs cells slots hl k2 => lv_aloadN C.1 C.2.1 hd (hl.at hv rfl) k2
  · exact em_plain kk fun lsM H locs cells slots hl k2 => lv_aload C.1 C.2.1 hd (hl.at hv rfl) k2
theorem em_i_istore_n (C : em_Cx p s m args c cc own nL D cl) {k : Fin 4} (hd : decode cc pc = .ok (.istore_n k, 1)) : em_Sp p l e R s m args below meth c Q D dA aty cl base nL s0 H00 w ls st pc (em_sto 0 k pc 1 ls st) := by
  intro pc' ls' st' h q _ _ kk
  obtain ⟨v, rfl, ht, hf, rfl, rfl, rfl⟩ := em_sto_inv q
  obtain ⟨x, rfl⟩ := em_ty_0 ht
  intro lsM H locs cells slots h1 h2 h3 h4 h5
  exact lv_istore_n C.1 C.2.1 hd rfl h1.2.1 (h1.1 ▸ em_fr_lt hf) rfl fun ls2 hl2 => kk ls2 H locs cells slots (h1.set1 rfl hf hl2) h2 h3 h4 h5
theorem em_i_istore (C : em_Cx p s m args c cc own nL D cl) {k : Nat} (hd : decode cc pc = .ok (.istore k, 2)) : em_Sp p l e R s m args below meth c Q D dA aty cl base nL s0 H00 w ls st pc (em_sto 0 k pc 2 ls st) := by
  intro pc' ls' st' h q _ _ kk
  obtain ⟨v, rfl, ht, hf, rfl, rfl, rfl⟩ := em_sto_inv q
  obtain ⟨x, rfl⟩ := em_ty_0 ht
  intro lsM H locs cells slots h1 h2 h3 h4 h5
  exact lv_istore C.1 C.2.1 hd h1.2.1 (h1.1 ▸ em_fr_lt hf) rfl fun ls2 hl2 => kk ls2 H locs cells slots (h1.set1 rfl hf hl2) h2 h3 h4 h5
theorem em_i_astore_n (C : em_Cx p s m args c cc own nL D cl) {k : Fin 4} (hd : decode cc pc = .ok (.astore_n k, 1)) : em_Sp p l e R s m args below meth c Q D dA aty cl base nL s0 H00 w ls st pc (em_sto 2 k pc 1 ls st) := by
  intro pc' ls' st' h q _ _ kk
  obtain ⟨v, rfl, ht, hf, rfl, rfl, rfl⟩ := em_sto_inv q
  intro lsM H locs cells slots h1 h2 h3 h4 h5
  rcases em_ty_2 ht with rfl | ⟨x, rfl⟩
  · exact lv_astore_nN C.1 C.2.1 hd rfl h1.2.1 (h1.1 ▸ em_fr_lt hf) rfl fun ls2 hl2 => kk ls2 H locs cells slots (h1.set1 rfl hf hl2) h2 h3 h4 h5
  · exact lv_astore_n C.1 C.2.1 hd rfl h1.2.1 (h1.1 ▸ em_fr_lt hf) rfl fun ls2 hl2 => kk ls2 H locs cells slots (h1.set1 rfl hf hl2) h2 h3 h4 h5
theorem em_i_astore (C : em_Cx p s m args c cc own nL D cl) {k : Nat} (hd : decode cc pc = .ok (.astore k, 2)) : em_Sp p l e R s m args below meth c Q D dA aty cl base nL s0 H00 w ls st pc (em_sto 2 k pc 2 ls st) := by
  intro pc' ls' st' h q _ _ kk
  obtain ⟨v, rfl, ht, hf, rfl, rfl, rfl⟩ := em_sto_inv q
  intro lsM H locs cells slots h1 h2 h3 h4 h5
  rcases em_ty_2 ht with rfl | ⟨x, rfl⟩
  · exact lv_astoreN C.1 C.2.1 hd h1.2.1 (h1.1 ▸ em_fr_lt hf) rfl fun ls2 hl2 => kk ls2 H locs cells slots (h1.set1 rfl hf hl2) h2 h3 h4 h5
  · exact lv_astore C.1 C.2.1 hd h1.2.1 (h1.1 ▸ em_fr_lt hf) rfl fun ls2 hl2 => kk ls2 H locs cells slots (h1.set1 rfl hf hl2) h2 h3 h4 h5
theorem em_stl_inv {k : Nat} {pc' : Nat} {ls' st' : List Value} {h : em_H} (q : em_stl k pc n ls st = some (.inr (.inl (pc', ls', st', h)))) : ∃ x, st = .long x :: st' ∧ em_fr ls k = true ∧ k + 1 < ls.length ∧ pc' = pc + n ∧ ls' = (ls.set k (.long x)).set (k + 1) (.retAddr 1) ∧ h = .inl [] := by
  unfold em_stl at q
  split at q
  · split at q
    · rename_i ht
      simp only [Bool.and_eq_true, decide_eq_true_eq] at ht
      obtain ⟨a, b, c', d⟩ := em_nx_inv q
      obtain ⟨x, rfl⟩ := em_ty_1 ht.1.1
      exact ⟨x, by rw [c'], ht.1.2, ht.2, a, b, d⟩
    · cases q
  · cases q
theorem em_i_lstore_n (C : em_Cx p s m args c cc own nL D cl) {k : Fin 4} (hd : decode cc pc = .ok (.lstore_n k, 1)) : em_Sp p l e R s m args below meth c Q D dA aty cl base nL s0 H00 w ls st pc (em_stl k pc 1 ls st) := by
  intro pc' ls' st' h q _ _ kk
  obtain ⟨x, rfl, hf, hl, rfl, rfl, rfl⟩ := em_stl_inv q
  intro lsM H locs cells slots h1 h2 h3 h4 h5
  exact lv_lstore_n C.1 C.2.1 hd rfl h1.2.1 (h1.1 ▸ hl) rfl fun ls2 hl2 => kk ls2 H locs cells slots (h1.set2 hf hl hl2) h2 h3 h4 h5
theorem em_i_lstore (C : em_Cx p s m args c cc own nL D cl) {k : Nat} (hd : decode cc pc = .ok (.lstore k, 2)) : em_Sp p l e R s m args below meth c Q D dA aty cl base nL s0 H00 w ls st pc (em_stl k pc 2 ls st) := by
  intro pc' ls' st' h q _ _ kk
  obtain ⟨x, rfl, hf, hl, rfl, rfl, rfl⟩ := em_stl_inv q
  intro lsM H locs cells slots h1 h2 h3 h4 h5
  exact lv_lstore C.1 C.2.1 hd h1.2.1 (h1.1 ▸ hl) rfl fun ls2 hl2 => kk ls2 H locs cells slots (h1.set2 hf hl hl2) h2 h3 h4 h5
theorem em_i_iinc (C : em_Cx p s m args c cc own nL D cl) {k : Nat} {x : Int} (hd : decode cc pc = .ok (.iinc k x, 3)) : em_Sp p l e R s m args below meth c Q D dA aty cl base nL s0 H00 w ls st pc (em_inc k pc 3 x ls st) := by
  intro pc' ls' st' h q _ _ kk
  unfold em_inc at q
  split at q
  · rename_i y hy
    obtain ⟨rfl, rfl, rfl, rfl⟩ := em_nx_inv q
    intro lsM H locs cells slots h1 h2 h3 h4 h5
    obtain ⟨j, hj⟩ := List.getElem?_of_mem (em_prs_mem.mpr ⟨hy, rfl⟩)
    have hf : em_fr ls k = true := by unfold em_fr; rw [hy]; rfl
    exact lv_iinc C.1 C.2.1 hd h1.2.1 hj rfl (h1.1 ▸ em_fr_lt hf) rfl fun ls2 hl2 => kk ls2 H locs cells slots (h1.set1 rfl hf hl2) h2 h3 h4 h5
  · cases q
theorem em_i_iconst (C : em_Cx p s m args c cc own nL D cl) {x : Int} (hd : decode cc pc = .ok (.iconst x, 1)) : em_Sp p l e R s m args below meth c Q D dA aty cl base nL s0 H00 w ls st pc (em_nx (pc + 1) ls (.int (Int32.ofInt x) :: st)) := by
  intro pc' ls' st' h q _ _ kk
  obtain ⟨rfl, rfl, rfl, rfl⟩ := em_nx_inv q
  exact em_plain kk fun lsM H locs cells slots hl k2 => lv_iconst C.1 C.2.1 hd rfl k2
theorem em_i_bipush (C : em_Cx p s m args c cc own nL D cl) {x : Int} (hd : decode cc pc = .ok (.bipush x, 2)) : em_Sp p l e R s m args below meth c Q D dA aty cl base nL s0 H00 w ls st pc (em_nx (pc + 2) ls (.int (Int8.ofInt x).toInt32 :: st)) := by
  intro pc' ls' st' h q _ _ kk
  obtain ⟨rfl, rfl, rfl, rfl⟩ := em_nx_inv q
  exact em_plain kk fun lsM H locs cells slots hl k2 => lv_bipush C.1 C.2.1 hd rfl k2
theorem em_i_sipush (C : em_Cx p s m args c cc own nL D cl) {x : Int} (hd : decode cc pc = .ok (.sipush x, 3)) : em_Sp p l e R s m args below meth c Q D dA aty cl base nL s0 H00 w ls st pc (em_nx (pc + 3) ls (.int (Int16.ofInt x).toInt32 :: st)) := by
  intro pc' ls' st' h q _ _ kk
  obtain ⟨rfl, rfl, rfl, rfl⟩ := em_nx_inv q
  exact em_plain kk fun lsM H locs cells slots hl k2 => lv_sipush C.1 C.2.1 hd rfl k2
theorem em_i_lconst (C : em_Cx p s m args c cc own nL D cl) {x : Fin 2} (hd : decode cc pc = .ok (.lconst x, 1)) : em_Sp p l e R s m args below meth c Q D dA aty cl base nL s0 H00 w ls st pc (em_nx (pc + 1) ls (.long (Int64.ofNat (x : Nat)) :: st)) := by
  intro pc' ls' st' h q _ _ kk
  obtain ⟨rfl, rfl, rfl, rfl⟩ := em_nx_inv q
  exact em_plain kk fun lsM H locs cells slots hl k2 => lv_lconst C.1 C.2.1 hd rfl k2
theorem em_i_null (C : em_Cx p s m args c cc own nL D cl) (hd : decode cc pc = .ok (.aconst_null, 1)) : em_Sp p l e R s m args below meth c Q D dA aty cl base nL s0 H00 w ls st pc (em_nx (pc + 1) ls (.null :: st)) := by
  intro pc' ls' st' h q _ _ kk
  obtain ⟨rfl, rfl, rfl, rfl⟩ := em_nx_inv q
  exact em_plain kk fun lsM H locs cells slots hl k2 => lv_null C.1 C.2.1 hd k2
theorem em_i_iadd (C : em_Cx p s m args c cc own nL D cl) (hd : decode cc pc = .ok (.iadd, 1)) : em_Sp p l e R s m args below meth c Q D dA aty cl base nL s0 H00 w ls st pc (em_ii (fun x y => x + y) pc 1 ls st) := by
  intro pc' ls' st' h q _ _ kk
  unfold em_ii at q
  split at q
  · obtain ⟨rfl, rfl, rfl, rfl⟩ := em_nx_inv q
    exact em_plain kk fun lsM H locs cells slots hl k2 => lv_iadd C.1 C.2.1 hd k2
  · cases q
theorem em_i_isub (C : em_Cx p s m args c cc own nL D cl) (hd : decode cc pc = .ok (.isub, 1)) : em_Sp p l e R s m args below meth c Q D dA aty cl base nL s0 H00 w ls st pc (em_ii (fun x y => x - y) pc 1 ls st) := by
  intro pc' ls' st' h q _ _ kk
  unfold em_ii at q
  split at q
  · obtain ⟨rfl, rfl, rfl, rfl⟩ := em_nx_inv q
    exact em_plain kk fun lsM H locs cells slots hl k2 => lv_isub C.1 C.2.1 hd k2
  · cases q
theorem em_i_imul (C : em_Cx p s m args c cc own nL D cl) (hd : decode cc pc = .ok (.imul, 1)) : em_Sp p l e R s m args below meth c Q D dA aty cl base nL s0 H00 w ls st pc (em_ii (fun x y => x * y) pc 1 ls st) := by
  intro pc' ls' st' h q _ _ kk
  unfold em_ii at q
  split at q
  · obtain ⟨rfl, rfl, rfl, rfl⟩ := em_nx_inv q
    exact em_plain kk fun lsM H locs cells slots hl k2 => lv_imul C.1 C.2.1 hd k2
  · cases q
theorem em_i_iand (C : em_Cx p s m args c cc own nL D cl) (hd : decode cc pc = .ok (.iand, 1)) : em_Sp p l e R s m args below meth c Q D dA aty cl base nL s0 H00 w ls st pc (em_ii (fun x y => x &&& y) pc 1 ls st) := by
  intro pc' ls' st' h q _ _ kk
  unfold em_ii at q
  split at q
  · obtain ⟨rfl, rfl, rfl, rfl⟩ := em_nx_inv q
    exact em_plain kk fun lsM H locs cells slots hl k2 => lv_iand C.1 C.2.1 hd k2
  · cases q
theorem em_i_ior (C : em_Cx p s m args c cc own nL D cl) (hd : decode cc pc = .ok (.ior, 1)) : em_Sp p l e R s m args below meth c Q D dA aty cl base nL s0 H00 w ls st pc (em_ii (fun x y => x ||| y) pc 1 ls st) := by
  intro pc' ls' st' h q _ _ kk
  unfold em_ii at q
  split at q
  · obtain ⟨rfl, rfl, rfl, rfl⟩ := em_nx_inv q
    exact em_plain kk fun lsM H locs cells slots hl k2 => lv_ior C.1 C.2.1 hd k2
  · cases q
theorem em_i_ixor (C : em_Cx p s m args c cc own nL D cl) (hd : decode cc pc = .ok (.ixor, 1)) : em_Sp p l e R s m args below meth c Q D dA aty cl base nL s0 H00 w ls st pc (em_ii (fun x y => x ^^^ y) pc 1 ls st) := by
  intro pc' ls' st' h q _ _ kk
  unfold em_ii at q
  split at q
  · obtain ⟨rfl, rfl, rfl, rfl⟩ := em_nx_inv q
    exact em_plain kk fun lsM H locs cells slots hl k2 => lv_ixor C.1 C.2.1 hd k2
  · cases q
theorem em_i_ishl (C : em_Cx p s m args c cc own nL D cl) (hd : decode cc pc = .ok (.ishl, 1)) : em_Sp p l e R s m args below meth c Q D dA aty cl base nL s0 H00 w ls st pc (em_ii (fun x y => x <<< (y &&& 31)) pc 1 ls st) := by
  intro pc' ls' st' h q _ _ kk
  unfold em_ii at q
  split at q
  · obtain ⟨rfl, rfl, rfl, rfl⟩ := em_nx_inv q
    exact em_plain kk fun lsM H locs cells slots hl k2 => lv_ishl C.1 C.2.1 hd k2
  · cases q
theorem em_i_ishr (C : em_Cx p s m args c cc own nL D cl) (hd : decode cc pc = .ok (.ishr, 1)) : em_Sp p l e R s m args below meth c Q D dA aty cl base nL s0 H00 w ls st pc (em_ii (fun x y => x >>> (y &&& 31)) pc 1 ls st) := by
  intro pc' ls' st' h q _ _ kk
  unfold em_ii at q
  split at q
  · obtain ⟨rfl, rfl, rfl, rfl⟩ := em_nx_inv q
    exact em_plain kk fun lsM H locs cells slots hl k2 => lv_ishr C.1 C.2.1 hd k2
  · cases q
theorem em_i_iushr (C : em_Cx p s m args c cc own nL D cl) (hd : decode cc pc = .ok (.iushr, 1)) : em_Sp p l e R s m args below meth c Q D dA aty cl base nL s0 H00 w ls st pc (em_ii (fun x y => (x.toUInt32 >>> (y.toUInt32 &&& Int32.toUInt32 31)).toInt32) pc 1 ls st) := by
  intro pc' ls' st' h q _ _ kk
  unfold em_ii at q
  split at q
  · obtain ⟨rfl, rfl, rfl, rfl⟩ := em_nx_inv q
    exact em_plain kk fun lsM H locs cells slots hl k2 => lv_iushr C.1 C.2.1 hd rfl k2
  · cases q
theorem em_i_idiv (C : em_Cx p s m args c cc own nL D cl) (hd : decode cc pc = .ok (.idiv, 1)) : em_Sp p l e R s m args below meth c Q D dA aty cl base nL s0 H00 w ls st pc (em_dv (fun x y => x / y) pc 1 ls st) := by
  intro pc' ls' st' h q _ _ kk
  unfold em_dv at q
  split at q
  · split at q
    · cases q
    · rename_i hne
      obtain ⟨rfl, rfl, rfl, rfl⟩ := em_nx_inv q
      exact em_plain kk fun lsM H locs cells slots hl k2 => lv_idiv C.1 C.2.1 hd hne k2
  · cases q
theorem em_i_irem (C : em_Cx p s m args c cc own nL D cl) (hd : decode cc pc = .ok (.irem, 1)) : em_Sp p l e R s m args below meth c Q D dA aty cl base nL s0 H00 w ls st pc (em_dv (fun x y => x - x / y * y) pc 1 ls st) := by
  intro pc' ls' st' h q _ _ kk
  unfold em_dv at q
  split at q
  · split at q
    · cases q
    · rename_i hne
      obtain ⟨rfl, rfl, rfl, rfl⟩ := em_nx_inv q
      exact em_plain kk fun lsM H locs cells slots hl k2 => lv_irem C.1 C.2.1 hd hne k2
  · cases q
theorem em_i_ladd (C : em_Cx p s m args c cc own nL D cl) (hd : decode cc pc = .ok (.ladd, 1)) : em_Sp p l e R s m args below meth c Q D dA aty cl base nL s0 H00 w ls st pc (em_ll (fun x y => x + y) pc 1 ls st) := by
  intro pc' ls' st' h q _ _ kk
  unfold em_ll at q
  split at q
  · obtain ⟨rfl, rfl, rfl, rfl⟩ := em_nx_inv q
    exact em_plain kk fun lsM H locs cells slots hl k2 => lv_ladd C.1 C.2.1 hd k2
  · cases q
theorem em_i_lsub (C : em_Cx p s m args c cc own nL D cl) (hd : decode cc pc = .ok (.lsub, 1)) : em_Sp p l e R s m args below meth c Q D dA aty cl base nL s0 H00 w ls st pc (em_ll (fun x y => x - y) pc 1 ls st) := by
  intro pc' ls' st' h q _ _ kk
  unfold em_ll at q
  split at q
  · obtain ⟨rfl, rfl, rfl, rfl⟩ := em_nx_inv q
    exact em_plain kk fun lsM H locs cells slots hl k2 => lv_lsub C.1 C.2.1 hd k2
  · cases q
theorem em_i_lmul (C : em_Cx p s m args c cc own nL D cl) (hd : decode cc pc = .ok (.lmul, 1)) : em_Sp p l e R s m args below meth c Q D dA aty cl base nL s0 H00 w ls st pc (em_ll (fun x y => x * y) pc 1 ls st) := by
  intro pc' ls' st' h q _ _ kk
  unfold em_ll at q
  split at q
  · obtain ⟨rfl, rfl, rfl, rfl⟩ := em_nx_inv q
    exact em_plain kk fun lsM H locs cells slots hl k2 => lv_lmul C.1 C.2.1 hd k2
  · cases q
theorem em_i_ldiv (C : em_Cx p s m args c cc own nL D cl) (hd : decode cc pc = .ok (.ldiv, 1)) : em_Sp p l e R s m args below meth c Q D dA aty cl base nL s0 H00 w ls st pc (em_dl (fun x y => x / y) pc 1 ls st) := by
  intro pc' ls' st' h q _ _ kk
  unfold em_dl at q
  split at q
  · split at q
    · cases q
    · rename_i hne
      obtain ⟨rfl, rfl, rfl, rfl⟩ := em_nx_inv q
      exact em_plain kk fun lsM H locs cells slots hl k2 => lv_ldiv C.1 C.2.1 hd hne k2
  · cases q
theorem em_i_ineg (C : em_Cx p s m args c cc own nL D cl) (hd : decode cc pc = .ok (.ineg, 1)) : em_Sp p l e R s m args below meth c Q D dA aty cl base nL s0 H00 w ls st pc (em_i1 (fun x => .int (-x)) pc 1 ls st) := by
  intro pc' ls' st' h q _ _ kk
  unfold em_i1 at q
  split at q
  · obtain ⟨rfl, rfl, rfl, rfl⟩ := em_nx_inv q
    exact em_plain kk fun lsM H locs cells slots hl k2 => lv_ineg C.1 C.2.1 hd k2
  · cases q
theorem em_i_i2l (C : em_Cx p s m args c cc own nL D cl) (hd : decode cc pc = .ok (.i2l, 1)) : em_Sp p l e R s m args below meth c Q D dA aty cl base nL s0 H00 w ls st pc (em_i1 (fun x => .long x.toInt64) pc 1 ls st) := by
  intro pc' ls' st' h q _ _ kk
  unfold em_i1 at q
  split at q
  · obtain ⟨rfl, rfl, rfl, rfl⟩ := em_nx_inv q
    exact em_plain kk fun lsM H locs cells slots hl k2 => lv_i2l C.1 C.2.1 hd rfl k2
  · cases q
theorem em_i_i2b (C : em_Cx p s m args c cc own nL D cl) (hd : decode cc pc = .ok (.i2b, 1)) : em_Sp p l e R s m args below meth c Q D dA aty cl base nL s0 H00 w ls st pc (em_i1 (fun x => .int x.toInt8.toInt32) pc 1 ls st) := by
  intro pc' ls' st' h q _ _ kk
  unfold em_i1 at q
  split at q
  · obtain ⟨rfl, rfl, rfl, rfl⟩ := em_nx_inv q
    exact em_plain kk fun lsM H locs cells slots hl k2 => lv_i2b C.1 C.2.1 hd rfl k2
  · cases q
theorem em_i_i2c (C : em_Cx p s m args c cc own nL D cl) (hd : decode cc pc = .ok (.i2c, 1)) : em_Sp p l e R s m args below meth c Q D dA aty cl base nL s0 H00 w ls st pc (em_i1 (fun x => .int (x.toUInt32 % 65536).toInt32) pc 1 ls st) := by
  intro pc' ls' st' h q _ _ kk
  unfold em_i1 at q
  split at q
  · obtain ⟨rfl, rfl, rfl, rfl⟩ := em_nx_inv q
    exact em_plain kk fun lsM H locs cells slots hl k2 => lv_i2c C.1 C.2.1 hd rfl k2
  · cases q
theorem em_i_l2i (C : em_Cx p s m args c cc own nL D cl) (hd : decode cc pc = .ok (.l2i, 1)) : em_Sp p l e R s m args below meth c Q D dA aty cl base nL s0 H00 w ls st pc (em_l1 (fun x => .int x.toInt32) pc 1 ls st) := by
  intro pc' ls' st' h q _ _ kk
  unfold em_l1 at q
  split at q
  · obtain ⟨rfl, rfl, rfl, rfl⟩ := em_nx_inv q
    exact em_plain kk fun lsM H locs cells slots hl k2 => lv_l2i C.1 C.2.1 hd rfl k2
  · cases q
theorem em_i_lcmp (C : em_Cx p s m args c cc own nL D cl) (hd : decode cc pc = .ok (.lcmp, 1)) : em_Sp p l e R s m args below meth c Q D dA aty cl base nL s0 H00 w ls st pc (em_lc pc 1 ls st) := by
  intro pc' ls' st' h q _ _ kk
  unfold em_lc at q
  split at q
  · obtain ⟨rfl, rfl, rfl, rfl⟩ := em_nx_inv q
    exact em_plain kk fun lsM H locs cells slots hl k2 => W.lcmp C.1 C.2.1 hd k2
  · cases q
theorem em_i_dup (C : em_Cx p s m args c cc own nL D cl) (hd : decode cc pc = .ok (.dup, 1)) : em_Sp p l e R s m args below meth c Q D dA aty cl base nL s0 H00 w ls st pc (em_d1 pc 1 ls st) := by
  intro pc' ls' st' h q _ _ kk
  unfold em_d1 at q
  split at q
  · split at q
    · rename_i hc
      obtain ⟨rfl, rfl, rfl, rfl⟩ := em_nx_inv q
      exact em_plain kk fun lsM H locs cells slots hl k2 => lv_dup C.1 C.2.1 hd hc k2
    · cases q
  · cases q
theorem em_i_pop (C : em_Cx p s m args c cc own nL D cl) (hd : decode cc pc = .ok (.pop, 1)) : em_Sp p l e R s m args below meth c Q D dA aty cl base nL s0 H00 w ls st pc (em_po pc 1 ls st) := by
  intro pc' ls' st' h q _ _ kk
  unfold em_po at q
  split at q
  · split at q
    · rename_i hc
      obtain ⟨rfl, rfl, rfl, rfl⟩ := em_nx_inv q
      exact em_plain kk fun lsM H locs cells slots hl k2 => lv_pop C.1 C.2.1 hd hc k2
    · cases q
  · cases q
theorem em_i_dup_x1 (C : em_Cx p s m args c cc own nL D cl) (hd : decode cc pc = .ok (.dup_x1, 1)) : em_Sp p l e R s m args below meth c Q D dA aty cl base nL s0 H00 w ls st pc (em_dx pc 1 ls st) := by
  intro pc' ls' st' h q _ _ kk
  unfold em_dx at q
  split at q
  · split at q
    · rename_i hc
      obtain ⟨rfl, rfl, rfl, rfl⟩ := em_nx_inv q
      exact em_plain kk fun lsM H locs cells slots hl k2 => lv_dup_x1 C.1 C.2.1 hd hc.1 hc.2 k2
    · cases q
  · cases q
theorem em_i_dup2 (C : em_Cx p s m args c cc own nL D cl) (hd : decode cc pc = .ok (.dup2, 1)) : em_Sp p l e R s m args below meth c Q D dA aty cl base nL s0 H00 w ls st pc (em_d2 pc 1 ls st) := by
  intro pc' ls' st' h q _ _ kk
  unfold em_d2 at q
  split at q
  · split at q
    · rename_i hc
      obtain ⟨rfl, rfl, rfl, rfl⟩ := em_nx_inv q
      exact em_plain kk fun lsM H locs cells slots hl k2 => lv_dup2_11 C.1 C.2.1 hd rfl hc k2
    · cases q
  · obtain ⟨rfl, rfl, rfl, rfl⟩ := em_nx_inv q
    exact em_plain kk fun lsM H locs cells slots hl k2 => lv_dup2_2 C.1 C.2.1 hd rfl k2
  · cases q
theorem em_i_icmp (C : em_Cx p s m args c cc own nL D cl) {cd : ClassFile.Cond} {off : Int} (hd : decode cc pc = .ok (.if_icmp cd off, 3)) : em_Sp p l e R s m args below meth c Q D dA aty cl base nL s0 H00 w ls st pc (em_b2 (em_ic cd) off pc 3 ls st) := by
  intro pc' ls' st' h q _ _ kk
  unfold em_b2 at q
  split at q
  · split at q
    · rename_i hz
      have ht : (pc : Int) + off = ((((pc : Int) + off).toNat : Nat) : Int) := by omega
      split at q
      · rename_i hc
        obtain ⟨rfl, rfl, rfl, rfl⟩ := em_nx_inv q
        refine em_plain kk fun lsM H locs cells slots hl k2 => ?_
        cases cd <;> simp only [em_ic, decide_eq_true_eq] at hc
        · exact lv_icmp_eq C.1 C.2.1 hd ht (fun _ => k2) (fun z => absurd hc z)
        · exact lv_icmp_ne C.1 C.2.1 hd ht (fun _ => k2) (fun z => absurd z hc)
        · exact lv_icmp_lt C.1 C.2.1 hd ht (fun _ => k2) (fun z => absurd hc z)
        · exact lv_icmp_ge C.1 C.2.1 hd ht (fun _ => k2) (fun z => absurd hc z)
        · exact lv_icmp_gt C.1 C.2.1 hd ht (fun _ => k2) (fun z => absurd hc z)
        · exact lv_icmp_le C.1 C.2.1 hd ht (fun _ => k2) (fun z => absurd hc z)
      · rename_i hc
        obtain ⟨rfl, rfl, rfl, rfl⟩ := em_nx_inv q
        refine em_plain kk fun lsM H locs cells slots hl k2 => ?_
        cases cd <;> simp only [em_ic, decide_eq_true_eq] at hc
        · exact lv_icmp_eq C.1 C.2.1 hd ht (fun z => absurd z hc) (fun _ => k2)
        · exact lv_icmp_ne C.1 C.2.1 hd ht (fun z => absurd z hc) (fun z => k2)
        · exact lv_icmp_lt C.1 C.2.1 hd ht (fun z => absurd z hc) (fun _ => k2)
        · exact lv_icmp_ge C.1 C.2.1 hd ht (fun z => absurd z hc) (fun _ => k2)
        · exact lv_icmp_gt C.1 C.2.1 hd ht (fun z => absurd z hc) (fun _ => k2)
        · exact lv_icmp_le C.1 C.2.1 hd ht (fun z => absurd z hc) (fun _ => k2)
    · cases q
  · cases q
theorem em_i_if (C : em_Cx p s m args c cc own nL D cl) {cd : ClassFile.Cond} {off : Int} (hd : decode cc pc = .ok (.ifCond cd off, 3)) : em_Sp p l e R s m args below meth c Q D dA aty cl base nL s0 H00 w ls st pc (em_b1 (fun x => em_ic cd x 0) off pc 3 ls st) := by
  intro pc' ls' st' h q _ _ kk
  unfold em_b1 at q
  split at q
  · split at q
    · rename_i hz
      have ht : (pc : Int) + off = ((((pc : Int) + off).toNat : Nat) : Int) := by omega
      split at q
      · rename_i hc
        obtain ⟨rfl, rfl, rfl, rfl⟩ := em_nx_inv q
        refine em_plain kk fun lsM H locs cells slots hl k2 => ?_
        cases cd <;> simp only [em_ic, decide_eq_true_eq] at hc
        · exact lv_if_eq C.1 C.2.1 hd ht (fun _ => k2) (fun z => absurd hc z)
        · exact lv_if_ne C.1 C.2.1 hd ht (fun _ => k2) (fun z => absurd z hc)
        · exact lv_if_lt C.1 C.2.1 hd ht (fun _ => k2) (fun z => absurd hc z)
        · exact lv_if_ge C.1 C.2.1 hd ht (fun _ => k2) (fun z => absurd hc z)
        · exact lv_if_gt C.1 C.2.1 hd ht (fun _ => k2) (fun z => absurd hc z)
        · exact lv_if_le C.1 C.2.1 hd ht (fun _ => k2) (fun z => absurd hc z)
      · rename_i hc
        obtain ⟨rfl, rfl, rfl, rfl⟩ := em_nx_inv q
        refine em_plain kk fun lsM H locs cells slots hl k2 => ?_
        cases cd <;> simp only [em_ic, decide_eq_true_eq] at hc
        · exact lv_if_eq C.1 C.2.1 hd ht (fun z => absurd z hc) (fun _ => k2)
        · exact lv_if_ne C.1 C.2.1 hd ht (fun z => absurd z hc) (fun z => k2)
        · exact lv_if_lt C.1 C.2.1 hd ht (fun z => absurd z hc) (fun _ => k2)
        · exact lv_if_ge C.1 C.2.1 hd ht (fun z => absurd z hc) (fun _ => k2)
        · exact lv_if_gt C.1 C.2.1 hd ht (fun z => absurd z hc) (fun _ => k2)
        · exact lv_if_le C.1 C.2.1 hd ht (fun z => absurd z hc) (fun _ => k2)
    · cases q
  · cases q
theorem em_rf_some {v : Value} {a : Option Nat} (h : em_rf v = some a) : v = va_rf a := by
  cases v <;> first | (cases h; rfl) | cases h
theorem em_i_acmp (C : em_Cx p s m args c cc own nL D cl) {cd : ACond} {off : Int} (hd : decode cc pc = .ok (.if_acmp cd off, 3)) : em_Sp p l e R s m args below meth c Q D dA aty cl base nL s0 H00 w ls st pc (em_ba (decide (cd = .eq)) off pc 3 ls st) := by
  intro pc' ls' st' h q _ _ kk
  unfold em_ba at q
  split at q
  · split at q
    · rename_i a b ha hb
      have ha := em_rf_some ha
      have hb := em_rf_some hb
      subst ha
      subst hb
      split at q
      · have ht : (pc : Int) + off = ((((pc : Int) + off).toNat : Nat) : Int) := by omega
        split at q
        · rename_i hc
          obtain ⟨rfl, rfl, rfl, rfl⟩ := em_nx_inv q
          refine em_plain kk fun lsM H locs cells slots hl k2 => ?_
          cases cd
          · have hc : a = b := of_decide_eq_true (by simpa using hc)
            exact lv_acmp_eq C.1 C.2.1 hd ht (fun _ => k2) (fun z => absurd hc z)
          · have hc : ¬ a = b := of_decide_eq_false (by simpa using hc)
            exact lv_acmp_ne C.1 C.2.1 hd ht (fun _ => k2) (fun z => absurd z hc)
        · rename_i hc
          obtain ⟨rfl, rfl, rfl, rfl⟩ := em_nx_inv q
          refine em_plain kk fun lsM H locs cells slots hl k2 => ?_
          cases cd
          · have hc : ¬ a = b := by intro z; exact hc (by simp [z])
            exact lv_acmp_eq C.1 C.2.1 hd ht (fun z => absurd z hc) (fun _ => k2)
          · have hc : a = b := by
              by_cases z : a = b
              · exact z
              · exact absurd (by simp [z]) hc
            exact lv_acmp_ne C.1 C.2.1 hd ht (fun z => absurd hc z) (fun _ => k2)
      · cases q
    · cases q
  · cases q
theorem em_i_ifnull (C : em_Cx p s m args c cc own nL D cl) {off : Int} (hd : decode cc pc = .ok (.ifnull off, 3)) : em_Sp p l e R s m args below meth c Q D dA aty cl base nL s0 H00 w ls st pc (em_bn true off pc 3 ls st) := by
  intro pc' ls' st' h q _ _ kk
  unfold em_bn at q
  split at q
  · rw [if_pos rfl] at q
    obtain ⟨rfl, rfl, rfl, rfl⟩ := em_nx_inv q
    exact em_plain kk fun lsM H locs cells slots hl k2 => lv_ifnull C.1 C.2.1 hd k2
  · rw [if_pos rfl] at q
    obtain ⟨ht, rfl, rfl, rfl⟩ := em_jp_inv q
    exact em_plain kk fun lsM H locs cells slots hl k2 => lv_ifnullN C.1 C.2.1 hd ht k2
  · cases q
theorem em_i_ifnonnull (C : em_Cx p s m args c cc own nL D cl) {off : Int} (hd : decode cc pc = .ok (.ifnonnull off, 3)) : em_Sp p l e R s m args below meth c Q D dA aty cl base nL s0 H00 w ls st pc (em_bn false off pc 3 ls st) := by
  intro pc' ls' st' h q _ _ kk
  unfold em_bn at q
  split at q
  · rw [if_neg (by decide)] at q
    obtain ⟨ht, rfl, rfl, rfl⟩ := em_jp_inv q
    exact em_plain kk fun lsM H locs cells slots hl k2 => lv_ifnonnull C.1 C.2.1 hd ht k2
  · rw [if_neg (by decide)] at q
    obtain ⟨rfl, rfl, rfl, rfl⟩ := em_nx_inv q
    exact em_plain kk fun lsM H locs cells slots hl k2 => lv_ifnonnullN C.1 C.2.1 hd k2
  · cases q
theorem em_i_goto (C : em_Cx p s m args c cc own nL D cl) {off : Int} (hd : decode cc pc = .ok (.goto off, 3)) : em_Sp p l e R s m args below meth c Q D dA aty cl base nL s0 H00 w ls st pc (em_jp pc off ls st) := by
  intro pc' ls' st' h q _ _ kk
  obtain ⟨ht, rfl, rfl, rfl⟩ := em_jp_inv q
  exact em_plain kk fun lsM H locs cells slots hl k2 => lv_goto C.1 C.2.1 hd ht k2
theorem em_i_ts (C : em_Cx p s m args c cc own nL D cl) {d lo hi : Int} {offs : Array Int} (hd : decode cc pc = .ok (.tableswitch d lo hi offs, n)) : em_Sp p l e R s m args below meth c Q D dA aty cl base nL s0 H00 w ls st pc (em_ts d lo hi offs pc ls st) := by
  intro pc' ls' st' h q _ _ kk
  unfold em_ts at q
  split at q
  · split at q
    · rename_i hc
      obtain ⟨ht, rfl, rfl, rfl⟩ := em_jp_inv q
      exact em_plain kk fun lsM H locs cells slots hl k2 => lv_tableOut C.1 C.2.1 hd hc ht k2
    · rename_i hc
      split at q
      · rename_i off ho
        obtain ⟨ht, rfl, rfl, rfl⟩ := em_jp_inv q
        exact em_plain kk fun lsM H locs cells slots hl k2 => lv_tableIn C.1 C.2.1 hd (fun z => hc (Or.inl z)) (fun z => hc (Or.inr z)) ho ht k2
      · cases q
  · cases q
theorem em_i_lk (C : em_Cx p s m args c cc own nL D cl) {d : Int} {ps : Array (Int × Int)} (hd : decode cc pc = .ok (.lookupswitch d ps, n)) : em_Sp p l e R s m args below meth c Q D dA aty cl base nL s0 H00 w ls st pc (em_lk d ps pc ls st) := by
  intro pc' ls' st' h q _ _ kk
  unfold em_lk at q
  split at q
  · split at q
    · rename_i hc
      obtain ⟨ht, rfl, rfl, rfl⟩ := em_jp_inv q
      exact em_plain kk fun lsM H locs cells slots hl k2 => lv_lookup C.1 C.2.1 hd hc rfl ht k2
    · cases q
  · cases q
end EMS
