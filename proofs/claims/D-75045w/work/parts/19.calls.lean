/-! SOUNDNESS of calls, kind by kind -/
section EMC
variable {P : em_M} {T : em_T} {KK : State → Prop} {g : em_G} {D : va_G} {dA : Nat → ClassId} {aty : Nat → FieldType} {cl : List vw_C} {base : Nat} {H00 : Heap}
theorem em_blind (hKW : ∀ s U : State, s.WarmedH U.vm → KK s → KK U) {as : List Value} {w : em_W} : FrameBlind (em_Pc KK D dA aty cl base H00 as w) := by
  intro a U g1 mk h
  exact ⟨h.1, h.2.1, hKW U _ (State.WarmedH.refl U) h.2.2⟩
theorem em_preS (hKW : ∀ s U : State, s.WarmedH U.vm → KK s → KK U) {s : State} {H : Heap} {as : List Value} {w : em_W} (hKK : KK s) (hw : em_wok D dA aty cl base H00 w H) : PreS s H (em_Pc KK D dA aty cl base H00 as w) as :=
  ⟨em_blind hKW, fun U hU hW => ⟨rfl, by rw [hU]; exact hw, hKW s U hW hKK⟩⟩
/-- a known call's shape -/
theorem em_iv0 {dd pc n c m0 m' n' : Nat} {ls st as st' : List Value} {w : em_W} (h : em_iv g dd pc n ls st w [0, c, m0] = some (.inr (.inr (m', n', as, st')))) : m' = m0 ∧ n' = n ∧ st = as.reverse ++ st' ∧ as.length = c ∧ (st'.map fun v => v.category).sum ≤ 8 := by
  simp only [em_iv] at h
  split at h
  · rename_i hb
    simp only [Bool.and_eq_true, decide_eq_true_eq] at hb
    cases h
    refine ⟨rfl, rfl, by rw [List.reverse_reverse, List.take_append_drop], by rw [List.length_reverse, List.length_take]; omega, of_decide_eq_true hb.2⟩
  · cases h
/-- what a call's callee needs of the tables -/
def em_cd (P : em_M) (T : em_T) (m0 c : Nat) : Prop := (T m0).2.2 = none ∧ Cond.code (T m0).1 (T m0).2.1 (P.2.1 m0) (P.2.2.1 m0) ∈ lw_all ∧ P.2.1 m0 ≤ 21 ∧ (T m0).1.cls ≠ "java/lang/invoke/MethodHandle" ∧ (T m0).1.cls ≠ "java/lang/invoke/VarHandle" ∧ (parseMethodDescriptor (T m0).1.desc).map (fun d => d.parameters.length) = some c
theorem em_cd.ws {m0 c : Nat} (h : em_cd P T m0 c) : em_ws P T m0 = ws_ (T m0).1 (T m0).2.1 (P.2.1 m0) (P.2.2.1 m0) := by unfold em_ws; rw [h.1]
def em_cdW (P : em_M) (T : em_T) (m0 c : Nat) (hh : List (Nat × Nat × Nat × Nat)) : Prop := (T m0).2.2 = some hh ∧ Cond.codeWith (T m0).1 (T m0).2.1 (P.2.1 m0) (P.2.2.1 m0) hh ∈ lw_all ∧ P.2.1 m0 ≤ 21 ∧ (T m0).1.cls ≠ "java/lang/invoke/MethodHandle" ∧ (T m0).1.cls ≠ "java/lang/invoke/VarHandle" ∧ (parseMethodDescriptor (T m0).1.desc).map (fun d => d.parameters.length) = some c
theorem em_cdW.ws {m0 c : Nat} {hh : List (Nat × Nat × Nat × Nat)} (h : em_cdW P T m0 c hh) : em_ws P T m0 = wsW_ (T m0).1 (T m0).2.1 (P.2.1 m0) (P.2.2.1 m0) hh := by unfold em_ws; rw [h.1]
set_option maxRecDepth 20000 in
theorem em_room {d mc ms L : Nat} {R : Room} (h1 : 2 * (d + 1) + 10 ≤ R.frames) (h2 : 48 * (d + 1) + 300 ≤ R.locals) (hL : L ≤ 21) : (em_rm d mc ms).frames + 1 ≤ R.frames ∧ 8 + (L + 11) + (em_rm d mc ms).locals ≤ R.locals := by
  refine ⟨?_, ?_⟩
  · have e : (em_rm d mc ms).frames = 2 * d + 10 := rfl
    rw [e]; omega
  · have e : (em_rm d mc ms).locals = 48 * d + 300 := rfl
    rw [e]; omega
theorem em_c_S (hKW : ∀ s U : State, s.WarmedH U.vm → KK s → KK U) {mm pc idx c m0 : Nat} (hd : decode (T mm).2.1 pc = .ok (.invokestatic idx, 3)) (hc : em_cd P T m0 c) (t1 : Cond.methodLink (T mm).1.cls idx (T m0).1 ∈ lw_all) (t2 : Cond.static (T m0).1 ∈ lw_all) (t3 : Cond.initialized (T m0).1.cls ∈ lw_all) : em_COK P T KK g D dA aty cl base H00 mm (pc, (.invokestatic idx, 3, [0, c, m0])) := by
  intro p l e R s m args below meth c9 d ls st w m' n' as st' CK hs Qc XC mc ms free lsM H locs cells slots hsz hw hnU hM _hQ hf
  have hs : em_iv g (d + 1) pc 3 ls st w [0, c, m0] = some (.inr (.inr (m', n', as, st'))) := hs
  obtain ⟨rfl, rfl, rfl, hlen, h8⟩ := em_iv0 hs
  obtain ⟨⟨hx, hb, hown, hts, hml, hK, hcf⟩, hKK, hmn, hnm, hrt, hlk, htb, hf1, hl1, -, -⟩ := CK
  rw [hc.ws] at hM
  exact ⟨_, vx_runS (As := as) (rest := st') ⟨hx, hb, hml, hown, hts⟩ hM (va_cwS c hts (lw_S t1 t2 t3 hc.2.1) rfl rfl rfl ⟨hc.2.2.2.1, hc.2.2.2.2.1, hc.2.2.2.2.2⟩ (em_room hf1 hl1 hc.2.2.1)) (em_preS hKW hKK hw) rfl hlen hsz rfl (lv_room h8) hd hf⟩
theorem em_c_SX (hKW : ∀ s U : State, s.WarmedH U.vm → KK s → KK U) {mm pc idx c m0 : Nat} {hh : List (Nat × Nat × Nat × Nat)} (hd : decode (T mm).2.1 pc = .ok (.invokestatic idx, 3)) (hc : em_cdW P T m0 c hh) (t1 : Cond.methodLink (T mm).1.cls idx (T m0).1 ∈ lw_all) (t2 : Cond.static (T m0).1 ∈ lw_all) (t3 : Cond.initialized (T m0).1.cls ∈ lw_all) : em_COK P T KK g D dA aty cl base H00 mm (pc, (.invokestatic idx, 3, [0, c, m0])) := by
  intro p l e R s m args below meth c9 d ls st w m' n' as st' CK hs Qc XC mc ms free lsM H locs cells slots hsz hw hnU hM _hQ hf
  have hs : em_iv g (d + 1) pc 3 ls st w [0, c, m0] = some (.inr (.inr (m', n', as, st'))) := hs
  obtain ⟨rfl, rfl, rfl, hlen, h8⟩ := em_iv0 hs
  obtain ⟨⟨hx, hb, hown, hts, hml, hK, hcf⟩, hKK, hmn, hnm, hrt, hlk, htb, hf1, hl1, -, -⟩ := CK
  rw [hc.ws] at hM
  exact ⟨_, vx_runSX (As := as) (rest := st') ⟨hx, hb, hml, hown, hts⟩ hM (vx_cwSW c hts (lw_SW t1 t2 t3 hc.2.1) rfl rfl rfl ⟨hc.2.2.2.1, hc.2.2.2.2.1, hc.2.2.2.2.2⟩ (em_room hf1 hl1 hc.2.2.1)) (em_preS hKW hKK hw) rfl hlen hsz rfl (lv_room h8) hd hf⟩
theorem em_c_SN (hKW : ∀ s U : State, s.WarmedH U.vm → KK s → KK U) {mm pc idx c m0 : Nat} {host : String} (hd : decode (T mm).2.1 pc = .ok (.invokestatic idx, 3)) (hc : em_cd P T m0 c) (t1 : ∀ s, KK s → va_Nw (.methodLinkNest (T mm).1.cls idx (T m0).1 host) s) (t2 : Cond.static (T m0).1 ∈ lw_all) (t3 : Cond.initialized (T m0).1.cls ∈ lw_all) : em_COK P T KK g D dA aty cl base H00 mm (pc, (.invokestatic idx, 3, [0, c, m0])) := by
  intro p l e R s m args below meth c9 d ls st w m' n' as st' CK hs Qc XC mc ms free lsM H locs cells slots hsz hw hnU hM _hQ hf
  have hs : em_iv g (d + 1) pc 3 ls st w [0, c, m0] = some (.inr (.inr (m', n', as, st'))) := hs
  obtain ⟨rfl, rfl, rfl, hlen, h8⟩ := em_iv0 hs
  obtain ⟨⟨hx, hb, hown, hts, hml, hK, hcf⟩, hKK, hmn, hnm, hrt, hlk, htb, hf1, hl1, -, -⟩ := CK
  rw [hc.ws] at hM
  exact ⟨_, vx_runSN (As := as) (rest := st') ⟨hx, hb, hml, hown, hts⟩ hM ⟨va_cnB c hts (lw_meth hc.2.1) rfl rfl rfl (t1 s hKK) (hts _ t3) ⟨hc.2.2.2.1, hc.2.2.2.2.1, hc.2.2.2.2.2⟩ (em_room hf1 hl1 hc.2.2.1), hts _ t2, trivial⟩ (em_preS hKW hKK hw) rfl hlen hsz rfl (lv_room h8) hd hf⟩
/-- a constructor: the receiver is the first argument -/
theorem em_split1 {as : List Value} {c : Nat} (h : as.length = c + 1) : ∃ (v : Value) (r : List Value), as = v :: r ∧ r.length = c := by
  cases as with
  | nil => simp at h
  | cons v r => exact ⟨v, r, rfl, by simpa using h⟩
/-- a call by the receiver's kind k, of the method m0 -/
def em_CR (P : em_M) (T : em_T) (KK : State → Prop) (D : va_G) (dA : Nat → ClassId) (aty : Nat → FieldType) (cl : List vw_C) (base : Nat) (H00 : Heap) (mm pc n c k m0 : Nat) : Prop :=
  ∀ (p : Program) (l : Launch) (e : Env) (R : Room) (s : State) (m : MethodId) (args : Array Value) (below : List Frame) (meth : Method) (c9 : Code) (d : Nat) (w : em_W) (b : Nat) (As st' : List Value), em_CK P T KK D cl base H00 (d + 1) mm p l R s m args meth c9 → As.length = c → (st'.map fun v => v.category).sum ≤ 8 →
    ∀ (Qc : Array Value → State → Outcome → State → Prop) (XC : String → Addr → State → State → Prop) (mc ms : Nat) (free : Addr → Prop) (lsM : Array Slot) (H : Heap) (locs : List Loc) (cells slots : Nat), lsM.size = P.2.1 mm → em_wok D dA aty cl base H00 w H → em_kd w b = some k →
      vx_Met l (T m0).1 (em_ws P T m0) (em_rm d mc ms) (em_Pc KK D dA aty cl base H00 (.ref b :: As) w) Qc XC mc ms free → cells + mc ≤ R.cells ∧ slots + ms ≤ R.slots →
      em_Rn n p l e R s m args below meth c9 H locs cells slots mc ms (F0 m pc lsM (As.reverse ++ .ref b :: st')) st' (Qc (Value.ref b :: As).toArray) XC free
theorem em_preV (hKW : ∀ s U : State, s.WarmedH U.vm → KK s → KK U) {s : State} {H : Heap} {As : List Value} {b : Nat} {w : em_W} {C : String} {k : Nat} (hcl : cl.length ≤ 100) (hKK : KK s) (hw : em_wok D dA aty cl base H00 w H) (hk : em_kd w b = some k) (hC : s.vm.findClass C = some (em_kc D dA k)) : PreV s H C b (em_Pc KK D dA aty cl base H00 (.ref b :: As) w) As := by
  obtain ⟨cell, c1, c2, c3⟩ := em_kd_cell hcl hw hk
  exact ⟨em_blind hKW, ⟨cell, c1, em_notst c2, by rw [c3]; exact hC⟩, fun U hU hW => ⟨rfl, by rw [hU]; exact hw, hKW s U hW hKK⟩⟩
/-- the class of a kind by its name -/
theorem em_kcls {s : State} (hK : va_K D cl [] s) {k : Nat} {r : vw_C} (hk : k < 100) (hr : cl[k]? = some r) : s.vm.findClass r.1 = some (em_kc D dA k) := by
  rw [em_kc, if_pos hk]
  exact (hK.1 _ _ hr).2.1
theorem em_r_V (hKW : ∀ s U : State, s.WarmedH U.vm → KK s → KK U) {mm pc idx c k m0 : Nat} {r : vw_C} (hd : decode (T mm).2.1 pc = .ok (.invokevirtual idx, 3)) (hc : em_cd P T m0 c) (hk : k < 100) (hr : cl[k]? = some r) (hrc : (T m0).1.cls = r.1) (t1 : Cond.methodLink (T mm).1.cls idx (T m0).1 ∈ lw_all) (t2 : Cond.instanceMethod (T m0).1 ∈ lw_all) (t3 : Cond.selects r.1 (T m0).1 (T m0).1 ∈ lw_all) (t4 : Cond.initialized r.1 ∈ lw_all) : em_CR P T KK D dA aty cl base H00 mm pc 3 c k m0 := by
  intro p l e R s m args below meth c9 d w b As st' CK hlen h8 Qc XC mc ms free lsM H locs cells slots hsz hw hkd hM hf
  obtain ⟨⟨hx, hb, hown, hts, hml, hK, hcf⟩, hKK, hmn, hnm, hrt, hlk, htb, hf1, hl1, -, -⟩ := CK
  rw [hc.ws] at hM
  exact vx_runV (C := r.1) (As := As) (rest := st') ⟨hx, hb, hml, hown, hts⟩ hM (cwV c hts (lw_V t1 t2 t3 t4 hc.2.1) rfl rfl rfl ⟨hrc, hc.2.2.2.1, hc.2.2.2.2.1, hc.2.2.2.2.2⟩ (em_room hf1 hl1 hc.2.2.1)) (em_preV hKW hcf.1 hKK hw hkd (em_kcls hK hk hr)) rfl hlen hsz rfl (lv_room h8) hd hf
theorem em_r_I (hKW : ∀ s U : State, s.WarmedH U.vm → KK s → KK U) {mm pc idx c k m0 : Nat} (hd : decode (T mm).2.1 pc = .ok (.invokespecial idx, 3)) (hc : em_cd P T m0 c) (hrt : P.2.2.1 m0 = none) (hn : (T m0).1.name = "<init>") (t1 : Cond.methodLink (T mm).1.cls idx (T m0).1 ∈ lw_all) (t2 : Cond.instanceMethod (T m0).1 ∈ lw_all) (t3 : Cond.initialized (T m0).1.cls ∈ lw_all) : em_CR P T KK D dA aty cl base H00 mm pc 3 c k m0 := by
  intro p l e R s m args below meth c9 d w b As st' CK hlen h8 Qc XC mc ms free lsM H locs cells slots hsz hw hkd hM hf
  obtain ⟨⟨hx, hb, hown, hts, hml, hK, hcf⟩, hKK, hmn, hnm, hrt9, hlk, htb, hf1, hl1, -, -⟩ := CK
  have h1 := hc.2.1
  rw [hc.ws] at hM
  rw [hrt] at hM h1
  exact vx_runI (b := b) (As := As) (rest := st') ⟨hx, hb, hml, hown, hts⟩ hM (cwI c hts (lw_meth h1) rfl rfl rfl (hts _ t3) (hts _ t1) (hts _ t2) hn ⟨hc.2.2.2.1, hc.2.2.2.2.1, hc.2.2.2.2.2⟩ (em_room hf1 hl1 hc.2.2.1)) (em_preS hKW hKK hw) rfl hlen hsz rfl (lv_room h8) hd hf
theorem em_r_IN (hKW : ∀ s U : State, s.WarmedH U.vm → KK s → KK U) {mm pc idx c k m0 : Nat} {host : String} (hd : decode (T mm).2.1 pc = .ok (.invokespecial idx, 3)) (hc : em_cd P T m0 c) (hrt : P.2.2.1 m0 = none) (hn : (T m0).1.name = "<init>") (t1 : ∀ s, KK s → va_Nw (.methodLinkNest (T mm).1.cls idx (T m0).1 host) s) (t2 : Cond.instanceMethod (T m0).1 ∈ lw_all) (t3 : Cond.initialized (T m0).1.cls ∈ lw_all) : em_CR P T KK D dA aty cl base H00 mm pc 3 c k m0 := by
  intro p l e R s m args below meth c9 d w b As st' CK hlen h8 Qc XC mc ms free lsM H locs cells slots hsz hw hkd hM hf
  obtain ⟨⟨hx, hb, hown, hts, hml, hK, hcf⟩, hKK, hmn, hnm, hrt9, hlk, htb, hf1, hl1, -, -⟩ := CK
  have h1 := hc.2.1
  rw [hc.ws] at hM
  rw [hrt] at hM h1
  exact vx_runIN (b := b) (As := As) (rest := st') ⟨hx, hb, hml, hown, hts⟩ hM ⟨va_cnB c hts (lw_meth h1) rfl rfl rfl (t1 s hKK) (hts _ t3) ⟨hc.2.2.2.1, hc.2.2.2.2.1, hc.2.2.2.2.2⟩ (em_room hf1 hl1 hc.2.2.1), hn, hts _ t2⟩ (em_preS hKW hKK hw) rfl hlen hsz rfl (lv_room h8) hd hf
theorem em_r_VX (hKW : ∀ s U : State, s.WarmedH U.vm → KK s → KK U) {mm pc idx c k m0 : Nat} {r : vw_C} {hh : List (Nat × Nat × Nat × Nat)} (hd : decode (T mm).2.1 pc = .ok (.invokevirtual idx, 3)) (hc : em_cdW P T m0 c hh) (hk : k < 100) (hr : cl[k]? = some r) (hrc : (T m0).1.cls = r.1) (t1 : Cond.methodLink (T mm).1.cls idx (T m0).1 ∈ lw_all) (t2 : Cond.instanceMethod (T m0).1 ∈ lw_all) (t3 : Cond.selects r.1 (T m0).1 (T m0).1 ∈ lw_all) (t4 : Cond.initialized r.1 ∈ lw_all) : em_CR P T KK D dA aty cl base H00 mm pc 3 c k m0 := by
  intro p l e R s m args below meth c9 d w b As st' CK hlen h8 Qc XC mc ms free lsM H locs cells slots hsz hw hkd hM hf
  obtain ⟨⟨hx, hb, hown, hts, hml, hK, hcf⟩, hKK, hmn, hnm, hrt, hlk, htb, hf1, hl1, -, -⟩ := CK
  rw [hc.ws] at hM
  exact vx_runVX (C := r.1) (As := As) (rest := st') ⟨hx, hb, hml, hown, hts⟩ hM (vx_cwVW c hts (lw_VW t1 t2 t3 t4 hc.2.1) rfl rfl rfl ⟨hrc, hc.2.2.2.1, hc.2.2.2.2.1, hc.2.2.2.2.2⟩ (em_room hf1 hl1 hc.2.2.1)) (em_preV hKW hcf.1 hKK hw hkd (em_kcls hK hk hr)) rfl hlen hsz rfl (lv_room h8) hd hf
theorem em_r_VN (hKW : ∀ s U : State, s.WarmedH U.vm → KK s → KK U) {mm pc idx c k m0 : Nat} {r : vw_C} {host : String} (hd : decode (T mm).2.1 pc = .ok (.invokevirtual idx, 3)) (hc : em_cd P T m0 c) (hk : k < 100) (hr : cl[k]? = some r) (t1 : ∀ s, KK s → va_Nw (.methodLinkNest (T mm).1.cls idx (T m0).1 host) s) (t2 : Cond.instanceMethod (T m0).1 ∈ lw_all) (t3 : Cond.selects r.1 (T m0).1 (T m0).1 ∈ lw_all) (t4 : Cond.initialized (T m0).1.cls ∈ lw_all) : em_CR P T KK D dA aty cl base H00 mm pc 3 c k m0 := by
  intro p l e R s m args below meth c9 d w b As st' CK hlen h8 Qc XC mc ms free lsM H locs cells slots hsz hw hkd hM hf
  obtain ⟨⟨hx, hb, hown, hts, hml, hK, hcf⟩, hKK, hmn, hnm, hrt, hlk, htb, hf1, hl1, -, -⟩ := CK
  rw [hc.ws] at hM
  exact vx_runVN (C := r.1) (As := As) (rest := st') ⟨hx, hb, hml, hown, hts⟩ hM ⟨va_cnB c hts (lw_meth hc.2.1) rfl rfl rfl (t1 s hKK) (hts _ t4) ⟨hc.2.2.2.1, hc.2.2.2.2.1, hc.2.2.2.2.2⟩ (em_room hf1 hl1 hc.2.2.1), hts _ t2, hts _ t3⟩ (em_preV hKW hcf.1 hKK hw hkd (em_kcls hK hk hr)) rfl hlen hsz rfl (lv_room h8) hd hf
theorem em_r_O (hKW : ∀ s U : State, s.WarmedH U.vm → KK s → KK U) {mm pc idx c k m0 : Nat} {r : vw_C} {x : MethodName} {owner : String} (hd : decode (T mm).2.1 pc = .ok (.invokevirtual idx, 3)) (hc : em_cd P T m0 c) (hk : k < 100) (hr : cl[k]? = some r) (t : ∀ w ∈ ([.methodLink (T mm).1.cls idx x, .sameMethod x.cls owner x.name x.desc, .selects r.1 x (T m0).1, .instanceMethod (T m0).1, .initialized (T m0).1.cls] : List Cond), w ∈ lw_all) (hD : ∀ s, KK s → va_Decl s ⟨owner, x.name, x.desc⟩) (hdx : owner ≠ "java/lang/invoke/MethodHandle" ∧ owner ≠ "java/lang/invoke/VarHandle" ∧ (parseMethodDescriptor x.desc).map (fun d => d.parameters.length) = some c) : em_CR P T KK D dA aty cl base H00 mm pc 3 c k m0 := by
  intro p l e R s m args below meth c9 d w b As st' CK hlen h8 Qc XC mc ms free lsM H locs cells slots hsz hw hkd hM hf
  obtain ⟨⟨hx, hb, hown, hts, hml, hK, hcf⟩, hKK, hmn, hnm, hrt, hlk, htb, hf1, hl1, -, -⟩ := CK
  rw [hc.ws] at hM
  have hR := em_room (mc := mc) (ms := ms) hf1 hl1 hc.2.2.1
  have u := fun w hw => hts w (t w hw)
  exact vx_runU (C := r.1) (owner := owner) (x := x) (As := As) (rest := st') ⟨hx, hb, hml, hown, hts⟩ hM ⟨⟨rfl, rfl, hR.1, hR.2, pay_in hts (lw_meth hc.2.1), List.mem_cons_self⟩, hts _ hc.2.1, u _ (by simp), ⟨hdx.1, hdx.2.1⟩, fun sig h => by
    have h2 := hdx.2.2
    rw [h] at h2
    exact (Option.some.inj h2).symm, u _ (by simp), u _ (by simp), hD s hKK, u _ (by simp), u _ (by simp)⟩ (em_preV hKW hcf.1 hKK hw hkd (em_kcls hK hk hr)) rfl hlen hsz rfl (lv_room h8) hd hf
theorem em_r_SU (hKW : ∀ s U : State, s.WarmedH U.vm → KK s → KK U) {mm pc idx c k m0 : Nat} {r : vw_C} (hd : decode (T mm).2.1 pc = .ok (.invokespecial idx, 3)) (hc : em_cd P T m0 c) (hk : k < 100) (hr : cl[k]? = some r) (hn : (T m0).1.name ≠ "<init>") (t : ∀ w ∈ ([.methodLink (T mm).1.cls idx (T m0).1, .sameMethod (T m0).1.cls (T m0).1.cls (T m0).1.name (T m0).1.desc, .superclass (T mm).1.cls (T m0).1.cls, .instanceMethod (T m0).1, .initialized (T m0).1.cls] : List Cond), w ∈ lw_all) : em_CR P T KK D dA aty cl base H00 mm pc 3 c k m0 := by
  intro p l e R s m args below meth c9 d w b As st' CK hlen h8 Qc XC mc ms free lsM H locs cells slots hsz hw hkd hM hf
  obtain ⟨⟨hx, hb, hown, hts, hml, hK, hcf⟩, hKK, hmn, hnm, hrt, hlk, htb, hf1, hl1, -, -⟩ := CK
  rw [hc.ws] at hM
  refine vx_runSU (C := r.1) (As := As) (rest := st') (hK.1 _ _ hr).2 ⟨hx, hb, hml, hown, hts⟩ hM (va_cwSU c hts (lw_app ?_ (lw_meth hc.2.1)) rfl rfl rfl ⟨hn, hc.2.2.2.2.2⟩ (em_room hf1 hl1 hc.2.2.1)) (em_preV hKW hcf.1 hKK hw hkd (em_kcls hK hk hr)) rfl hlen hsz rfl (lv_room h8) hd hf
  intro w hw
  exact t w hw
theorem em_r_F (hKW : ∀ s U : State, s.WarmedH U.vm → KK s → KK U) {mm pc idx cnt c k m0 : Nat} {r : vw_C} {x : MethodName} (hd : decode (T mm).2.1 pc = .ok (.invokeinterface idx cnt, 5)) (hc : em_cd P T m0 c) (hk : k < 100) (hr : cl[k]? = some r) (t : ∀ w ∈ ([.methodLink (T mm).1.cls idx x, .selects r.1 x (T m0).1, .instanceMethod (T m0).1, .initialized (T m0).1.cls] : List Cond), w ∈ lw_all) (hF : ∀ s, KK s → va_Fw r.1 x (T m0).1 s) (hdx : x.cls ≠ "java/lang/invoke/MethodHandle" ∧ x.cls ≠ "java/lang/invoke/VarHandle" ∧ (parseMethodDescriptor x.desc).map (fun d => d.parameters.length) = some c) : em_CR P T KK D dA aty cl base H00 mm pc 5 c k m0 := by
  intro p l e R s m args below meth c9 d w b As st' CK hlen h8 Qc XC mc ms free lsM H locs cells slots hsz hw hkd hM hf
  obtain ⟨⟨hx, hb, hown, hts, hml, hK, hcf⟩, hKK, hmn, hnm, hrt, hlk, htb, hf1, hl1, -, -⟩ := CK
  rw [hc.ws] at hM
  refine vx_runF (C := r.1) (x := x) (As := As) (rest := st') (hK.1 _ _ hr).2 ⟨hx, hb, hml, hown, hts⟩ hM (va_cwF c hts (lw_app ?_ (lw_meth hc.2.1)) rfl rfl rfl (hF s hKK) hdx (em_room hf1 hl1 hc.2.2.1)) (em_preV hKW hcf.1 hKK hw hkd (em_kcls hK hk hr)) rfl hlen hsz rfl (lv_room h8) hd hf
  intro w hw
  exact t w hw
/-- a virtual call's shape -/
theorem em_iv1 {dd pc n c m' n' : Nat} {r : List Nat} {ls st as st' : List Value} {w : em_W} (hr : ∀ k m0, em_sl k r = some m0 → m0 < 10000) (h : em_iv g dd pc n ls st w (1 :: (c + 1) :: r) = some (.inr (.inr (m', n', as, st')))) : ∃ (b k : Nat) (As : List Value), as = .ref b :: As ∧ em_kd w b = some k ∧ em_sl k r = some m' ∧ n' = n ∧ st = As.reverse ++ .ref b :: st' ∧ As.length = c ∧ (st'.map fun v => v.category).sum ≤ 8 := by
  simp only [em_iv] at h
  split at h
  · rename_i b hb
    split at h
    · rename_i k hk
      split at h
      · rename_i m0 hm
        split at h
        · rename_i hcn
          rw [if_pos (hr k m0 hm)] at h
          simp only [Bool.and_eq_true, decide_eq_true_eq] at hcn
          have hlt : c < st.length := (List.getElem?_eq_some_iff.mp hb).1
          have hbe : st[c] = .ref b := (List.getElem?_eq_some_iff.mp hb).2
          cases h
          have e1 : st.take (c + 1) = st.take c ++ [.ref b] := by rw [List.take_succ_eq_append_getElem hlt, hbe]
          refine ⟨b, k, (st.take c).reverse, by rw [e1, List.reverse_append]; rfl, hk, hm, rfl, ?_, by rw [List.length_reverse, List.length_take]; omega, of_decide_eq_true hcn.2⟩
          rw [List.reverse_reverse]
          have e2 := List.take_append_drop (c + 1) st
          rw [e1, List.append_assoc] at e2
          exact e2.symm
        · cases h
      · cases h
    · cases h
  · cases h
theorem em_c_1 {mm pc n c : Nat} {r : List Nat} {i : Instr} (hi : ∀ (d : Nat) (rt : Option FieldType) (ls st : List Value) (w : em_W), em_st g d rt pc n [] ls st w (1 :: (c + 1) :: r) i = em_iv g d pc n ls st w (1 :: (c + 1) :: r)) (hr : ∀ k m0, em_sl k r = some m0 → m0 < 10000 ∧ em_CR P T KK D dA aty cl base H00 mm pc n c k m0) : em_COK P T KK g D dA aty cl base H00 mm (pc, (i, n, 1 :: (c + 1) :: r)) := by
  intro p l e R s m args below meth c9 d ls st w m' n' as st' CK hs Qc XC mc ms free lsM H locs cells slots hsz hw hnU hM _hQ hf
  have hs := hs
  dsimp only at hs
  rw [hi] at hs
  obtain ⟨b, k, As, rfl, hk, hm, rfl, rfl, hlen, h8⟩ := em_iv1 (fun k m0 h => (hr k m0 h).1) hs
  exact ⟨_, (hr k m' hm).2 p l e R s m args below meth c9 d w b As st' CK hlen h8 Qc XC mc ms free lsM H locs cells slots hsz hw hk hM hf⟩
end EMC
