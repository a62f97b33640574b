/-! SOUNDNESS of whole runs: the induction. What the tables must bear out is asked instruction by instruction (em_SOK, em_COK, em_HOK) and shown elsewhere. -/
/-- a method's name, code and handlers -/
abbrev em_T := Nat → MethodName × ByteArray × Option (List (Nat × Nat × Nat × Nat))
def em_ws (P : em_M) (T : em_T) (mm : Nat) : List Cond := match (T mm).2.2 with
  | none => ws_ (T mm).1 (T mm).2.1 (P.2.1 mm) (P.2.2.1 mm)
  | some hh => wsW_ (T mm).1 (T mm).2.1 (P.2.1 mm) (P.2.2.1 mm) hh
def em_tb (T : em_T) (mm : Nat) : List ExceptionTableEntry := match (T mm).2.2 with
  | none => []
  | some hh => tableOf hh
def em_rm (d mc ms : Nat) : Room := { frames := 2 * d + 10, cells := mc, slots := ms, locals := 48 * d + 300 }
theorem em_app_le (w : em_W) (h : em_H) : w.1 ≤ (em_app w h).1 ∧ w.2.1 ≤ (em_app w h).2.1 := by
  cases h with
  | inl l =>
    obtain ⟨h1, h2, -⟩ := em_app_list l w
    omega
  | inr x => exact ⟨Nat.le_refl _, Nat.le_refl _⟩
theorem em_drv_mono {P : em_M} {rec : em_R} (ih : ∀ d m pc ls st w o w', rec d m pc ls st w = some (o, w') → w.1 ≤ w'.1 ∧ w.2.1 ≤ w'.2.1) {d m pc : Nat} {ls : List Value} {w : em_W} (x : Option em_A) {o : em_O} {w' : em_W} (e : em_drv P rec d m pc ls w x = some (o, w')) : w.1 ≤ w'.1 ∧ w.2.1 ≤ w'.2.1 := by
  have ht : ∀ {d m pc ls w k q o w'}, em_thr P rec d m pc ls w k q = some (o, w') → w.1 ≤ w'.1 ∧ w.2.1 ≤ w'.2.1 := by
    intro d m pc ls w k q o w' e
    unfold em_thr at e
    split at e
    · cases e
    · cases e; exact ⟨Nat.le_refl _, Nat.le_refl _⟩
    · exact ih _ _ _ _ _ _ _ _ e
  match x, d, e with
  | none, _, e => cases e
  | some (.inl (.inl v)), _, e => cases e; exact ⟨Nat.le_refl _, Nat.le_refl _⟩
  | some (.inl (.inr q)), _, e => exact ht e
  | some (.inr (.inl x)), _, e =>
    have h1 := ih _ _ _ _ _ _ _ _ e
    have h2 := em_app_le w x.2.2.2
    omega
  | some (.inr (.inr x)), 0, e => cases e
  | some (.inr (.inr x)), d' + 1, e =>
    simp only [em_drv] at e
    split at e
    case isFalse => cases e
    cases h1 : rec d' x.1 0 (em_ent P x.1 x.2.2.1) [] w with
    | none => rw [h1] at e; cases e
    | some r =>
      rw [h1] at e
      obtain ⟨o1, w1⟩ := r
      have h2 := ih _ _ _ _ _ _ _ _ h1
      cases o1 with
      | inl v =>
        have h3 := ih _ _ _ _ _ _ _ _ e
        omega
      | inr q =>
        have h3 := ht e
        omega
theorem em_mono {P : em_M} {g : em_G} : ∀ f d m pc ls st w o w', em_run P g f d m pc ls st w = some (o, w') → w.1 ≤ w'.1 ∧ w.2.1 ≤ w'.2.1 := by
  intro f
  induction f with
  | zero => intro d m pc ls st w o w' e; cases e
  | succ f ih => intro d m pc ls st w o w' e; exact em_drv_mono ih _ e
/-- what stands behind a frame of the method mm, with d calls left -/
def em_CK (P : em_M) (T : em_T) (KK : State → Prop) (D : va_G) (cl : List vw_C) (base : Nat) (H00 : Heap) (d mm : Nat) (p : Program) (l : Launch) (R : Room) (s : State) (m : MethodId) (args : Array Value) (meth : Method) (c : Code) : Prop :=
  em_Cx p s m args c (T mm).2.1 (T mm).1.cls (P.2.1 mm) D cl ∧ KK s ∧ s.methodNamed? (T mm).1 = some m ∧ meth.name = (T mm).1.name ∧ meth.sig.returnType = P.2.2.1 mm ∧ meth.locks = false ∧ c.exceptionTable.toList = em_tb T mm ∧ 2 * d + 10 ≤ R.frames ∧ 48 * d + 300 ≤ R.locals ∧ l.stackTraces = false ∧ base ≤ s.heap.size
/-- a plain step is sound, in any frame of its method -/
def em_SOK (P : em_M) (T : em_T) (KK : State → Prop) (g : em_G) (D : va_G) (dA : Nat → ClassId) (aty : Nat → FieldType) (cl : List vw_C) (base : Nat) (H00 : Heap) (mm : Nat) (x : Nat × em_I) : Prop :=
  ∀ (p : Program) (l : Launch) (e : Env) (R : Room) (s : State) (m : MethodId) (args : Array Value) (below : List Frame) (meth : Method) (c : Code) (Q : State → Prop) (s0 d : Nat) (ls st : List Value) (w : em_W), em_CK P T KK D cl base H00 d mm p l R s m args meth c →
    em_Sp p l e R s m args below meth c Q D dA aty cl base (P.2.1 mm) s0 H00 w ls st x.1 (em_st g d (P.2.2.1 mm) x.1 x.2.2.1 [] ls st w x.2.2.2 x.2.1)
/-- behind a call: vx_Run, by the instruction's length -/
def em_Rn (n : Nat) (p : Program) (l : Launch) (e : Env) (R : Room) (s : State) (m : MethodId) (args : Array Value) (below : List Frame) (meth : Method) (c : Code) (H : Heap) (locs : List Loc) (cells slots mc ms : Nat) (g : JFrame) (rest : List Value) (Qa : State → Outcome → State → Prop) (XC : String → Addr → State → State → Prop) (free : Addr → Prop) : Prop :=
  ∀ T : State, T.heap = H → Stand p l e R s m args below meth c T locs cells slots →
    (∃ (v : Option Value) (st₀ t T' : State) (L : List Loc), st₀.heap = H ∧ Stand p l e R s m args below meth c T' (locs ++ L) (cells + mc) (slots + ms) ∧ (∀ q ∈ L, free q.base) ∧ T'.heap = t.heap ∧ T'.vm = t.vm ∧ Qa st₀ (.returned v) t ∧
      Goes p e below T g T' { g with pc := g.pc + n, stack := v.toList ++ rest }) ∨
    (∃ (q : Addr) (st₀ t T' : State) (L : List Loc) (E : String) (ce : Cell), st₀.heap = H ∧ Stand p l e R s m args below meth c T' (locs ++ L) (cells + mc) (slots + ms) ∧ (∀ z ∈ L, free z.base) ∧ T'.heap = t.heap ∧ T'.vm = t.vm ∧ XC E q st₀ t ∧ t.heap[q]? = some ce ∧ ce.vm = .none ∧ s.vm.findClass E = some ce.cls ∧
      Steps p.tables e below (T.setTop g) ((T'.setTop { g with stack := rest }).pushFrame (.throwing q)))
def em_Pc (KK : State → Prop) (D : va_G) (dA : Nat → ClassId) (aty : Nat → FieldType) (cl : List vw_C) (base : Nat) (H00 : Heap) (as : List Value) (w : em_W) : Array Value → State → Prop := va_Pc as (fun U => em_wok D dA aty cl base H00 w U.heap ∧ KK U)
/-- a return is of the kind that the method has -/
def em_rok (i : Instr) (ret : Option FieldType) (v : Option Value) : Prop := (i = .ireturn ∧ ∃ x ty, v = some (.int x) ∧ ret = some ty ∧ narrow ty (.int x) = .int x) ∨ (i = .areturn ∧ ∃ u ty, v = some u ∧ ret = some ty ∧ ((∃ n, ty = .object n) ∨ ∃ t, ty = .array t) ∧ (u = .null ∨ ∃ a, u = .ref a)) ∨ (i = .lreturn ∧ ∃ x, v = some (.long x) ∧ ret = some .long) ∨ (i = .return_ ∧ v = none ∧ ret = none)
/-- a call is sound, if its callee is -/
def em_COK (P : em_M) (T : em_T) (KK : State → Prop) (g : em_G) (D : va_G) (dA : Nat → ClassId) (aty : Nat → FieldType) (cl : List vw_C) (base : Nat) (H00 : Heap) (mm : Nat) (x : Nat × em_I) : Prop :=
  ∀ (p : Program) (l : Launch) (e : Env) (R : Room) (s : State) (m : MethodId) (args : Array Value) (below : List Frame) (meth : Method) (c : Code) (d : Nat) (ls st : List Value) (w : em_W) (m' n' : Nat) (as st' : List Value), em_CK P T KK D cl base H00 (d + 1) mm p l R s m args meth c →
    em_st g (d + 1) (P.2.2.1 mm) x.1 x.2.2.1 [] ls st w x.2.2.2 x.2.1 = some (.inr (.inr (m', n', as, st'))) →
    ∀ (Qc : Array Value → State → Outcome → State → Prop) (XC : String → Addr → State → State → Prop) (mc ms : Nat) (free : Addr → Prop) (lsM : Array Slot) (H : Heap) (locs : List Loc) (cells slots : Nat), lsM.size = P.2.1 mm → em_wok D dA aty cl base H00 w H → (∀ v ∈ as, em_isU v = false) →
      vx_Met l (T m').1 (em_ws P T m') (em_rm d mc ms) (em_Pc KK D dA aty cl base H00 as w) Qc XC mc ms free → (∀ (a : Array Value) (st₀ : State) (o : Outcome) (t : State), Qc a st₀ o t → ∃ (i : Instr) (v : Option Value), o = .returned v ∧ em_rok i (P.2.2.1 m') v) → cells + mc ≤ R.cells ∧ slots + ms ≤ R.slots →
      ∃ a : Array Value, em_Rn n' p l e R s m args below meth c H locs cells slots mc ms (F0 m x.1 lsM st) st' (Qc a) XC free
/-- the handlers are as the evaluator has them -/
def em_HOK (P : em_M) (T : em_T) (KK : State → Prop) (cl : List vw_C) (mm : Nat) : Prop :=
  ∀ (pc k : Nat) (r : Option Nat), P.2.2.2 mm pc k = some r → ∀ (s : State) (args : Array Value), KK s → (∀ w ∈ lw_all, w.before args s = true) → ∀ E : vw_C, cl[k]? = some E →
    match r with
    | none => ∀ z ∈ em_tb T mm, covers z pc = false ∨ (z.catchType ≠ 0 ∧ ∃ nm : String, (Cond.classLink (T mm).1.cls z.catchType nm).before args s = true ∧ va_Nc E.1 nm s)
    | some h => ∃ (pre : List ExceptionTableEntry) (x : ExceptionTableEntry) (suf : List ExceptionTableEntry), em_tb T mm = pre ++ x :: suf ∧ (∀ z ∈ pre, covers z pc = false ∨ (z.catchType ≠ 0 ∧ ∃ nm : String, (Cond.classLink (T mm).1.cls z.catchType nm).before args s = true ∧ va_Nc E.1 nm s)) ∧ covers x pc = true ∧ x.handlerPc = h ∧
        (x.catchType = 0 ∨ (x.catchType ≠ 0 ∧ ∃ nm : String, (Cond.classLink (T mm).1.cls x.catchType nm).before args s = true ∧ (Cond.castable E.1 nm).before args s = true))
def em_r1 : Instr → Nat → Bool
  | .ireturn, n => n == 1
  | .areturn, n => n == 1
  | .lreturn, n => n == 1
  | .return_, n => n == 1
  | .athrow, n => n == 1
  | _, _ => true
/-- a step that isn't an end -/
def em_nr9 (x : Option em_A) : Prop := ∀ r, x ≠ some (.inl r)
theorem em_nr_nx {a : Nat} {b c : List Value} : em_nr9 (em_nx a b c) := fun r h => by unfold em_nx at h; cases h
theorem em_nr_jp {pc : Nat} {off : Int} {b c : List Value} : em_nr9 (em_jp pc off b c) := fun r h => by
  unfold em_jp at h
  split at h
  · exact em_nr_nx r h
  · cases h
set_option maxHeartbeats 4000000 in
theorem em_st_end {g : em_G} {d pc n : Nat} {rt : Option FieldType} {ls st : List Value} {w : em_W} {ks : List Nat} {i : Instr} {r : em_O} (h : em_st g d rt pc n [] ls st w ks i = some (.inl r)) : i = .ireturn ∨ i = .areturn ∨ i = .lreturn ∨ i = .return_ ∨ i = .athrow := by
  cases i <;> simp only [em_st] at h <;> first
    | (cases h; done)
    | exact Or.inl rfl
    | exact Or.inr (Or.inl rfl)
    | exact Or.inr (Or.inr (Or.inl rfl))
    | exact Or.inr (Or.inr (Or.inr (Or.inl rfl)))
    | exact Or.inr (Or.inr (Or.inr (Or.inr rfl)))
    | exact absurd h (em_nr_nx _)
    | exact absurd h (em_nr_jp _)
    | (exfalso; revert h; simp only [em_ld, em_sto, em_stl, em_inc, em_ii, em_dv, em_ll, em_dl, em_ls, em_i1, em_l1, em_lc, em_b2, em_b1, em_ba, em_bn, em_ts, em_lk, em_gf, em_pf, em_gs, em_nw, em_na, em_al, em_as, em_aa, em_ln, em_cc, em_io, em_ma, em_lt, em_l2, em_d1, em_po, em_dx, em_d2]; (repeat' split) <;> first | (intro h; cases h; done) | (exact em_nr_nx _) | (exact em_nr_jp _) | (intro h; simp at h))
    | (exfalso; revert h; unfold em_iv; (repeat' split) <;> first | (intro h; cases h; done) | (exact em_nr_nx _) | (unfold em_cp; (repeat' split) <;> (intro h; cases h)))
theorem em_st_ret {g : em_G} {d pc n : Nat} {rt : Option FieldType} {ls st : List Value} {w : em_W} {ks : List Nat} {i : Instr} {v : Option Value} (h : em_st g d rt pc n [] ls st w ks i = some (.inl (.inl v))) : st = v.toList ∧ em_rok i rt v := by
  rcases em_st_end h with rfl | rfl | rfl | rfl | rfl <;> simp only [em_st] at h
  · unfold em_rt at h
    split at h
    · rename_i x
      split at h
      · rename_i ty
        split at h
        · rename_i hn
          cases h
          exact ⟨rfl, Or.inl ⟨rfl, _, _, rfl, rfl, hn⟩⟩
        · cases h
      · cases h
    · cases h
  · unfold em_ar1 at h
    split at h
    · rename_i u
      split at h
      · rename_i hb
        simp only [Bool.and_eq_true] at hb
        cases h
        refine ⟨rfl, Or.inr (Or.inl ⟨rfl, u, ?_⟩)⟩
        match rt, hb.2 with
        | some (.object C), _ => exact ⟨_, rfl, rfl, Or.inl ⟨_, rfl⟩, em_ty_2 hb.1⟩
        | some (.array C), _ => exact ⟨_, rfl, rfl, Or.inr ⟨_, rfl⟩, em_ty_2 hb.1⟩
      · cases h
    · cases h
  · unfold em_lr at h
    split at h
    · split at h
      · cases h
        exact ⟨rfl, Or.inr (Or.inr (Or.inl ⟨rfl, _, rfl, rfl⟩))⟩
      · cases h
    · cases h
  · unfold em_vr at h
    split at h
    · split at h
      · cases h
        exact ⟨rfl, Or.inr (Or.inr (Or.inr ⟨rfl, rfl, rfl⟩))⟩
      · cases h
    · cases h
  · unfold em_at at h
    split at h
    · split at h
      · split at h <;> cases h
      · cases h
    · cases h
theorem em_st_thr {g : em_G} {d pc n : Nat} {rt : Option FieldType} {ls st : List Value} {w : em_W} {ks : List Nat} {i : Instr} {k q : Nat} (h : em_st g d rt pc n [] ls st w ks i = some (.inl (.inr (k, q)))) : i = .athrow ∧ (∃ rest, st = .ref q :: rest) ∧ k < 100 ∧ ∃ fs, em_fl w q = some (k, fs) := by
  rcases em_st_end h with rfl | rfl | rfl | rfl | rfl <;> simp only [em_st] at h
  · exfalso; revert h; unfold em_rt; (repeat' split) <;> (intro h; cases h)
  · exfalso; revert h; unfold em_ar1; (repeat' split) <;> (intro h; cases h)
  · exfalso; revert h; unfold em_lr; (repeat' split) <;> (intro h; cases h)
  · exfalso; revert h; unfold em_vr; (repeat' split) <;> (intro h; cases h)
  · unfold em_at at h
    split at h
    · split at h
      · rename_i k0 fs hk
        split at h
        · rename_i hlt
          cases h
          exact ⟨rfl, ⟨_, rfl⟩, hlt, _, hk⟩
        · cases h
      · cases h
    · cases h
theorem em_run_rok {P : em_M} {g : em_G} : ∀ (f d mm pc : Nat) (ls st : List Value) (w : em_W) (v : Option Value) (w' : em_W), em_run P g f d mm pc ls st w = some (.inl v, w') → ∃ i, em_rok i (P.2.2.1 mm) v
  | 0, _, _, _, _, _, _, _, _, h => by cases h
  | f + 1, d, mm, pc, ls, st, w, v, w', h => by
    have ht : ∀ (pcx : Nat) (w1 : em_W) (k q : Nat), em_thr P (em_run P g f) d mm pcx ls w1 k q = some (.inl v, w') → ∃ i, em_rok i (P.2.2.1 mm) v := by
      intro pcx w1 k q eq
      unfold em_thr at eq
      split at eq
      · cases eq
      · cases eq
      · exact em_run_rok f _ _ _ _ _ _ _ _ eq
    have e8 : em_drv P (em_run P g f) d mm pc ls w (em_act P g d mm pc ls st w) = some (.inl v, w') := h
    clear h
    unfold em_act at e8
    cases hi : P.1 mm pc with
    | none => rw [hi] at e8; cases e8
    | some i =>
      rw [hi] at e8
      dsimp only at e8
      cases ha : em_st g d (P.2.2.1 mm) pc i.2.1 [] ls st w i.2.2 i.1 with
      | none => rw [ha] at e8; cases e8
      | some a =>
        rw [ha] at e8
        match a, ha, e8 with
        | .inl (.inl v), ha, e8 =>
          cases e8
          exact ⟨_, (em_st_ret ha).2⟩
        | .inl (.inr (k, q)), ha, e8 => exact ht _ _ _ _ e8
        | .inr (.inl (pc', ls', st', h)), ha, e8 => exact em_run_rok f _ _ _ _ _ _ _ _ e8
        | .inr (.inr (m', n', as, st')), ha, e8 =>
          match d, ht, ha, e8 with
          | 0, _, _, e8 => cases e8
          | d' + 1, ht, ha, e8 =>
            simp only [em_drv] at e8
            split at e8
            case isFalse => cases e8
            cases h1 : em_run P g f d' m' 0 (em_ent P m' as) [] w with
            | none => rw [h1] at e8; cases e8
            | some r1 =>
              rw [h1] at e8
              obtain ⟨o1, w1⟩ := r1
              cases o1 with
              | inl v => exact em_run_rok f _ _ _ _ _ _ _ _ e8
              | inr q => exact ht _ _ _ _ e8
section EMI
variable {P : em_M} {T : em_T} {KK : State → Prop} {g : em_G} {D : va_G} {dA : Nat → ClassId} {aty : Nat → FieldType} {cl : List vw_C} {base : Nat} {H00 : Heap}
/-- all that the tables must bear out -/
def em_OK (P : em_M) (T : em_T) (KK : State → Prop) (g : em_G) (D : va_G) (dA : Nat → ClassId) (aty : Nat → FieldType) (cl : List vw_C) (base : Nat) (H00 : Heap) : Prop :=
  (∀ mm pc i, P.1 mm pc = some i → decode (T mm).2.1 pc = .ok (i.1, i.2.1) ∧ em_r1 i.1 i.2.1 = true ∧ em_SOK P T KK g D dA aty cl base H00 mm (pc, i) ∧ em_COK P T KK g D dA aty cl base H00 mm (pc, i)) ∧
  (∀ mm, em_HOK P T KK cl mm) ∧ (∀ s U : State, s.WarmedH U.vm → KK s → KK U) ∧ (∀ s, KK s → va_K D cl [] s) ∧ em_cf cl ∧ (∀ mm, plainName (T mm).1.cls = true ∧ P.2.1 mm ≤ 21)
/-- soundness of runs with f steps -/
def em_Snd (P : em_M) (T : em_T) (KK : State → Prop) (g : em_G) (D : va_G) (dA : Nat → ClassId) (aty : Nat → FieldType) (cl : List vw_C) (base : Nat) (H00 : Heap) (f : Nat) : Prop := ∀ (d mm pc : Nat) (ls st : List Value) (w : em_W) (o : em_O) (w' : em_W), em_run P g f d mm pc ls st w = some (o, w') →
    ∀ (p : Program) (l : Launch) (e : Env) (R : Room) (s : State) (m : MethodId) (args : Array Value) (below : List Frame) (meth : Method) (c : Code) (Q : State → Prop) (s0 : Nat), em_CK P T KK D cl base H00 d mm p l R s m args meth c → w'.1 ≤ s.heap.size + R.cells → w'.2.1 ≤ s0 + R.slots →
    (∀ v, o = .inl v → ∀ (pcr : Nat) (i : Instr) (lsM : Array Slot) (H : Heap) (locs : List Loc) (cells slots : Nat), decode c.code pcr = .ok (i, 1) → em_rok i (P.2.2.1 mm) v → em_wok D dA aty cl base H00 w' H → (∀ z ∈ locs, base ≤ z.base) → s.heap.size + cells = w'.1 → s0 + slots = w'.2.1 → W p l e R s m args below meth c H locs cells slots Q (F0 m pcr lsM v.toList)) →
    (∀ k q, o = .inr (k, q) → ∀ (pcx : Nat) (lsM : Array Slot) (st : List Value) (H : Heap) (locs : List Loc) (cells slots : Nat) (E : vw_C) (ce : Cell), P.2.2.2 mm pcx k = some none → cl[k]? = some E → H[q]? = some ce → ce.vm = .none → s.vm.findClass E.1 = some ce.cls → em_wok D dA aty cl base H00 w' H → (∀ z ∈ locs, base ≤ z.base) → s.heap.size + cells = w'.1 → s0 + slots = w'.2.1 → vx_W p l e R s m args below meth c H locs cells slots Q (F0 m pcx lsM st) q) →
    em_GG p l e R s m args below meth c Q D dA aty cl base (P.2.1 mm) s0 H00 w ls pc st
def em_Qc (D : va_G) (dA : Nat → ClassId) (aty : Nat → FieldType) (cl : List vw_C) (base : Nat) (H00 : Heap) (o : em_O) (w : em_W) : Array Value → State → Outcome → State → Prop := fun _ _ oc t => ∃ v, o = .inl v ∧ oc = .returned v ∧ em_wok D dA aty cl base H00 w t.heap
def em_XC (D : va_G) (dA : Nat → ClassId) (aty : Nat → FieldType) (cl : List vw_C) (base : Nat) (H00 : Heap) (o : em_O) (w : em_W) : String → Addr → State → State → Prop := fun E q _ t => ∃ (k : Nat) (r : vw_C), o = .inr (k, q) ∧ cl[k]? = some r ∧ E = r.1 ∧ em_wok D dA aty cl base H00 w t.heap
/-- a whole run is a contract -/
theorem em_met (O : em_OK P T KK g D dA aty cl base H00) {l : Launch} (hst : l.stackTraces = false) {f d mm : Nat} {as : List Value} {w w1 : em_W} {o1 : em_O} (h1 : em_run P g f d mm 0 (em_ent P mm as) [] w = some (o1, w1)) (ih : em_Snd P T KK g D dA aty cl base H00 f) (hg : em_gd P mm as = true) (hbs : base ≤ w.1) :
    vx_Met l (T mm).1 (em_ws P T mm) (em_rm d (w1.1 - w.1) (w1.2.1 - w.2.1)) (em_Pc KK D dA aty cl base H00 as w) (em_Qc D dA aty cl base H00 o1 w1) (em_XC D dA aty cl base H00 o1 w1) (w1.1 - w.1) (w1.2.1 - w.2.1) (fun q => base ≤ q) := by
  obtain ⟨O1, O2, O3, O4, O5, O6⟩ := O
  have hm := em_mono f _ _ _ _ _ _ _ _ h1
  unfold em_gd at hg
  simp only [Bool.and_eq_true, decide_eq_true_eq, List.all_eq_true] at hg
  have hnU : ∀ v ∈ as, em_isU v = false := fun v hv => by have := hg.1 v hv; simpa using this
  have key : ∀ (p : Program) (e : Env) (s : State) (m : MethodId) (args : Array Value) (below : List Frame) (meth : Method) (c : Code), em_CK P T KK D cl base H00 d mm p l (em_rm d (w1.1 - w.1) (w1.2.1 - w.2.1)) s m args meth c → args = as.toArray → em_wok D dA aty cl base H00 w s.heap →
      W p l e (em_rm d (w1.1 - w.1) (w1.2.1 - w.2.1)) s m args below meth c s.heap [] 0 0 (vx_MQ below (em_Qc D dA aty cl base H00 o1 w1) (em_XC D dA aty cl base H00 o1 w1) args s (w1.1 - w.1) (w1.2.1 - w.2.1) (fun q => base ≤ q)) (entryFrame m args (P.2.1 mm)) := by
    intro p e s m args below meth c CK ha hw
    subst ha
    rw [lg_entry_eq]
    have hsz : s.heap.size = w.1 := hw.1
    have hlr := em_LR_entry (P := P) (m := mm) (nL := P.2.1 mm) rfl hnU (by rw [← em_loc_len]; exact hg.2)
    have CK2 := CK
    obtain ⟨⟨hx, hb, hown, hts, hml, hK, hcf⟩, hKK, hmn, hnm, hrt, hlk, htb, hf1, hl1, -, -⟩ := CK
    refine ih d mm 0 (em_ent P mm as) [] w o1 w1 h1 p l e _ s m _ below meth c _ w.2.1 CK2 (by rw [hsz]; show _ ≤ w.1 + (w1.1 - w.1); omega) (by show _ ≤ w.2.1 + (w1.2.1 - w.2.1); omega) ?_ ?_ _ s.heap [] 0 0 hlr hw (fun z hz => nomatch hz) (by omega) (by omega)
    · intro v hv pcr i lsM H locs cells slots hd hr h2 h3 h4 h5
      have e1 : cells = w1.1 - w.1 := by omega
      have e2 : slots = w1.2.1 - w.2.1 := by omega
      subst e1
      subst e2
      refine vx_ret ?_
      rcases hr with ⟨rfl, x, ty, rfl, hr1, hn⟩ | ⟨rfl, u, ty, rfl, hr1, hr2, hr3⟩ | ⟨rfl, x, rfl, hr1⟩ | ⟨rfl, rfl, hr1⟩
      · exact W.zret hx rfl (hrt.trans hr1) hn (fun t ht _ => ⟨_, hv, rfl, by rw [ht]; exact h2⟩) h3 hd hlk
      · exact W.aret hx rfl (hrt.trans hr1) hr2 hr3 (fun t ht _ => ⟨_, hv, rfl, by rw [ht]; exact h2⟩) h3 hd hlk
      · exact W.lret hx rfl (hrt.trans hr1) (fun t ht _ => ⟨_, hv, rfl, by rw [ht]; exact h2⟩) h3 hd hlk
      · exact W.vret hx rfl (hrt.trans hr1) (fun t ht _ => ⟨_, hv, rfl, by rw [ht]; exact h2⟩) h3 hd hlk
    · intro k q ho pcx lsM st H locs cells slots E ce hh hE hq hv hcl h2 h3 h4 h5
      refine vx_outP hown hlk (fun z hz => ?_) hq hv hcl (fun t ht _ => ⟨k, E, ho, hE, rfl, by rw [ht]; exact h2⟩) h3 (by omega) (by omega)
      rw [htb] at hz
      exact O2 mm pcx k none hh s _ hKK hts E hE z hz
  cases hH : (T mm).2.2 with
  | none =>
    have e1 : em_ws P T mm = ws_ (T mm).1 (T mm).2.1 (P.2.1 mm) (P.2.2.1 mm) := by unfold em_ws; rw [hH]
    rw [e1]
    refine vx_ofW (cc := (T mm).2.1) (maxL := P.2.1 mm) (ret := P.2.2.1 mm) (O6 mm).1 rfl ?_
    intro p e s m args below meth c s₁ B hml hnt hv
    obtain ⟨ha, hw, hKK⟩ := hv
    have hts := atoms_spec (ws := ws_ (T mm).1 (T mm).2.1 (P.2.1 mm) (P.2.2.1 mm)) B.pre
    refine key p e s m args below meth c ⟨⟨B.exec, B.bytes, findClass_of_methodNamed B.named, fun w h => hts w (List.mem_cons_of_mem _ h), hml, O4 s hKK, O5⟩, hKK, B.named, (name_of_methodNamed B.named B.method).1, B.returns, B.notSynchronized, ?_, Nat.le_refl _, Nat.le_refl _, hst, by rw [hw.1]; exact hbs⟩ ha hw
    unfold em_tb
    rw [hH]
    exact List.eq_nil_iff_forall_not_mem.mpr fun x hx => hnt x hx
  | some hh =>
    have e1 : em_ws P T mm = wsW_ (T mm).1 (T mm).2.1 (P.2.1 mm) (P.2.2.1 mm) hh := by unfold em_ws; rw [hH]
    rw [e1]
    refine vx_ofWH (cc := (T mm).2.1) (maxL := P.2.1 mm) (ret := P.2.2.1 mm) (hh := hh) (O6 mm).1 rfl ?_
    intro p e s m args below meth c s₁ B hml hv
    obtain ⟨ha, hw, hKK⟩ := hv
    have hts := atoms_spec (ws := wsW_ (T mm).1 (T mm).2.1 (P.2.1 mm) (P.2.2.1 mm) hh) B.pre
    refine key p e s m args below meth c ⟨⟨B.exec, B.bytes, findClass_of_methodNamed B.named, fun w h => hts w (List.mem_cons_of_mem _ h), hml, O4 s hKK, O5⟩, hKK, B.named, (name_of_methodNamed B.named B.method).1, B.returns, B.notSynchronized, ?_, Nat.le_refl _, Nat.le_refl _, hst, by rw [hw.1]; exact hbs⟩ ha hw
    unfold em_tb
    rw [hH]
    exact vx_table (x := (T mm).1) B (hts _ List.mem_cons_self)
theorem em_sound (O : em_OK P T KK g D dA aty cl base H00) : ∀ f, em_Snd P T KK g D dA aty cl base H00 f := by
  have O' := O
  obtain ⟨O1, O2, O3, O4, O5, O6⟩ := O
  intro f
  induction f with
  | zero => intro d mm pc ls st w o w' e9; cases e9
  | succ f ih =>
    intro d mm pc ls st w o w' e9 p l e R s m args below meth c Q s0 CK hR1 hR2 KR KX
    -- a throwable at a place of this frame
    have hthr : ∀ (pcx : Nat) (w1 : em_W) (k q : Nat), em_thr P (em_run P g f) d mm pcx ls w1 k q = some (o, w') → ∀ (lsM : Array Slot) (st1 : List Value) (H : Heap) (locs : List Loc) (cells slots : Nat) (E : vw_C) (ce : Cell), cl[k]? = some E → H[q]? = some ce → ce.vm = .none → s.vm.findClass E.1 = some ce.cls → em_LR lsM (P.2.1 mm) ls → em_wok D dA aty cl base H00 w1 H → (∀ z ∈ locs, base ≤ z.base) → s.heap.size + cells = w1.1 → s0 + slots = w1.2.1 → vx_W p l e R s m args below meth c H locs cells slots Q (F0 m pcx lsM st1) q := by
      intro pcx w1 k q eq lsM st1 H locs cells slots E ce hE hq hv hcl h1 h2 h3 h4 h5
      unfold em_thr at eq
      split at eq
      · cases eq
      · rename_i hh
        cases eq
        exact KX k q rfl pcx lsM st1 H locs cells slots E ce hh hE hq hv hcl h2 h3 h4 h5
      · rename_i hp hh
        have hk := ih _ _ _ _ _ _ _ _ eq p l e R s m args below meth c Q s0 CK hR1 hR2 KR KX lsM H locs cells slots h1 h2 h3 h4 h5
        obtain ⟨⟨hx, hb, hown, hts, hml, hK, hcf⟩, hKK, hmn, hnm, hrt, hlk, htb, hf1, hl1, hst, hbs⟩ := CK
        obtain ⟨pre, x, suf, s1, s2, s3, s4, s5⟩ := O2 mm pcx k _ hh s args hKK hts E hE
        rw [← s4] at hk
        rw [← htb] at s1
        intro T hT X
        have hpl : e.platform.magicAccessors = ({} : Platform).magicAccessors := by rw [X.admits.platform]
        obtain ⟨vm', X', stp⟩ := X.thenCaughtThrough q (g := F0 m pcx lsM st1) rfl (Steps.refl _) (by rw [hT]; exact hq) (by rw [hv]; rfl) (by obtain ⟨k9, h9, -⟩ := Vm.findClass_spec hcl; exact ⟨k9, h9⟩) pre x suf s1
          (fun z hz => by
            rcases s2 z hz with h | ⟨hz0, nm, hl1, hn1⟩
            · exact Or.inl h
            · obtain ⟨c6, hc6, hcl6⟩ := Cond.classLink_spec hown hl1 e.platform hpl
              obtain ⟨a8, b8, h1, h2, h3⟩ := hn1
              cases Option.some.inj (h1.symm.trans hcl)
              cases Option.some.inj (h2.symm.trans hc6)
              exact Or.inr ⟨hz0, _, hcl6, h3⟩) s3 (by
            rcases s5 with h0 | ⟨h0, nm, hl2, hcast⟩
            · exact Or.inl h0
            · obtain ⟨c3, c4, hc3, hc4, hasg⟩ := Cond.castable_spec hcast
              cases Option.some.inj (hc3.symm.trans hcl)
              obtain ⟨c5, hc5, hcl5⟩ := Cond.classLink_spec hown hl2 e.platform hpl
              cases Option.some.inj (hc4.symm.trans hc5)
              exact Or.inr ⟨h0, c4, hcl5, hasg⟩)
        obtain ⟨t, a1, b1⟩ := hk (T.setVm vm') hT X'
        exact ⟨t, stp.trans a1, b1⟩
    have e8 : em_drv P (em_run P g f) d mm pc ls w (em_act P g d mm pc ls st w) = some (o, w') := e9
    clear e9
    unfold em_act at e8
    cases hi : P.1 mm pc with
    | none => rw [hi] at e8; cases e8
    | some i =>
      rw [hi] at e8
      dsimp only at e8
      obtain ⟨hdec, hr1, hS, hC⟩ := O1 mm pc i hi
      have hCx := CK.1
      cases ha : em_st g d (P.2.2.1 mm) pc i.2.1 [] ls st w i.2.2 i.1 with
      | none => rw [ha] at e8; cases e8
      | some a =>
        rw [ha] at e8
        match a, ha, e8 with
        | .inl (.inl v), ha, e8 =>
          cases e8
          obtain ⟨rfl, hrok⟩ := em_st_ret ha
          have hn : i.2.1 = 1 := by
            rcases hrok with ⟨h, -⟩ | ⟨h, -⟩ | ⟨h, -⟩ | ⟨h, -⟩ <;> rw [h] at hr1 <;> exact eq_of_beq hr1
          rw [hn] at hdec
          intro lsM H locs cells slots h1 h2 h3 h4 h5
          exact KR v rfl pc i.1 lsM H locs cells slots (by rw [hCx.2.1]; exact hdec) hrok h2 h3 h4 h5
        | .inl (.inr (k, q)), ha, e8 =>
          obtain ⟨h, ⟨rest, rfl⟩, hk, fs, hfl⟩ := em_st_thr ha
          have hn : i.2.1 = 1 := by rw [h] at hr1; exact eq_of_beq hr1
          rw [hn, h] at hdec
          intro lsM H locs cells slots h1 h2 h3 h4 h5
          have hcell := (h2.2.2.2 _ _ (em_fl_some hfl)).1
          have hmod : k % 1000 = k := Nat.mod_eq_of_lt (by omega)
          rcases hcell with ⟨r, hr, hlen, cell, q1, q2, q3, q4⟩ | ⟨h0, -⟩
          · dsimp only at hr q2
            rw [hmod] at hr q2
            have hfc := (hCx.2.2.2.2.2.1.1 _ _ hr).2.1
            refine vx_athrow hCx.1 hCx.2.1 hdec ?_
            exact hthr pc w k q e8 lsM rest H locs cells slots r cell hr q1 q3 (by rw [q2]; exact hfc) h1 h2 h3 h4 h5
          · dsimp only at h0
            omega
        | .inr (.inl (pc', ls', st', h)), ha, e8 =>
          have hm := em_mono f _ _ _ _ _ _ _ _ e8
          exact hS p l e R s m args below meth c Q s0 d ls st w CK pc' ls' st' h ha (Nat.le_trans hm.1 hR1) (Nat.le_trans hm.2 hR2) (ih _ _ _ _ _ _ _ _ e8 p l e R s m args below meth c Q s0 CK hR1 hR2 KR KX)
        | .inr (.inr (m', n', as, st')), ha, e8 =>
          match d, CK, hC, hthr, ha, e8 with
          | 0, _, _, _, _, e8 => cases e8
          | d' + 1, CK, hC, hthr, ha, e8 =>
            simp only [em_drv] at e8
            split at e8
            case isFalse => cases e8
            rename_i hg
            cases h1 : em_run P g f d' m' 0 (em_ent P m' as) [] w with
            | none => rw [h1] at e8; cases e8
            | some r1 =>
              rw [h1] at e8
              obtain ⟨o1, w1⟩ := r1
              have hm1 := em_mono f _ _ _ _ _ _ _ _ h1
              have hnU : ∀ v ∈ as, em_isU v = false := by
                unfold em_gd at hg
                simp only [Bool.and_eq_true, List.all_eq_true] at hg
                exact fun v hv => by have := hg.1 v hv; simpa using this
              have hm2 : w1.1 ≤ w'.1 ∧ w1.2.1 ≤ w'.2.1 := by
                cases o1 with
                | inl v => exact em_mono f _ _ _ _ _ _ _ _ e8
                | inr q => exact em_drv_mono (P := P) (rec := em_run P g f) (em_mono f) (d := d' + 1) (m := mm) (pc := pc) (ls := ls) (some (.inl (.inr q))) e8
              intro lsM H locs cells slots g1 g2 g3 g4 g5
              have hM := em_met O' CK.2.2.2.2.2.2.2.2.2.1 h1 ih hg g2.2.1
              obtain ⟨a, hRn⟩ := hC p l e R s m args below meth c d' ls st w m' n' as st' CK ha _ _ _ _ _ lsM H locs cells slots g1.2.1.1 g2 hnU hM (fun _ _ _ _ hq => by
                obtain ⟨v9, e9, e10, -⟩ := hq
                subst e9
                obtain ⟨i9, h9⟩ := em_run_rok _ _ _ _ _ _ _ _ _ h1
                exact ⟨i9, v9, e10, h9⟩) ⟨by omega, by omega⟩
              intro T0 hT X
              rcases hRn T0 hT X with ⟨v, st₀, t, T', L, z1, X', z3, z4, z5, ⟨v0, z6, z7, z8⟩, z9⟩ | ⟨q, st₀, t, T', L, E, ce, z1, X', z3, z4, z5, ⟨k, r, z6, z7, z8, z9⟩, z10, z11, z12, z13⟩
              · subst z6
                cases z7
                obtain ⟨t2, a1, b1⟩ := ih _ _ _ _ _ _ _ _ e8 p l e R s m args below meth c Q s0 CK hR1 hR2 KR KX lsM T'.heap (locs ++ L) (cells + (w1.1 - w.1)) (slots + (w1.2.1 - w.2.1)) g1 (by rw [z4]; exact z8) (fun z hz => by
                  rcases List.mem_append.mp hz with h | h
                  · exact g3 z h
                  · exact z3 z h) (by omega) (by omega) T' rfl X'
                exact ⟨t2, z9 t2 a1, b1⟩
              · subst z6
                subst z8
                obtain ⟨t2, a1, b1⟩ := hthr pc w1 k q e8 lsM st' T'.heap (locs ++ L) (cells + (w1.1 - w.1)) (slots + (w1.2.1 - w.2.1)) r ce z7 (by rw [z4]; exact z10) z11 z12 g1 (by rw [z4]; exact z9) (fun z hz => by
                  rcases List.mem_append.mp hz with h | h
                  · exact g3 z h
                  · exact z3 z h) (by omega) (by omega) T' rfl X'
                exact ⟨t2, z13.trans a1, b1⟩
end EMI
