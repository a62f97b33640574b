/-! SOUNDNESS: private methods above the receiver's class, an interface's default, wide texts, longs below zero -/
theorem em_selP {s : State} {args : Array Value} {C : String} {x : MethodName} {c : ClassId} (hC : s.vm.findClass C = some c) (h1 : (Cond.sameMethod x.cls x.cls x.name x.desc).before args s = true) (h2 : (Cond.privateMethod x).before args s = true) : (Cond.selects C x x).before args s = true := by
  obtain ⟨cn, ck, r1, hcn, hck, hni, hf, hn1⟩ := Cond.sameMethod_found h1
  have hn2 : s.methodNamed? x = some r1 := hn1
  cases hm : s.vm.method? r1 with
  | none => simp [Cond.before, Cond.holds, Cond.value, hn2, hm] at h2
  | some meth =>
    have h3 : meth.isPrivate = true := by simpa [Cond.before, Cond.holds, Cond.value, hn2, hm] using h2
    have hsel : selectMethod {} s.vm c r1 = .method r1 := by unfold selectMethod; simp [hm, h3]
    have hcls : r1.cls = cn := Option.some.inj ((findClass_of_methodNamed hn2).symm.trans hcn)
    simp [Cond.before, Cond.holds, Cond.value, hC, hf, hn2, hsel, hcls, hck, hni]
section EMD
variable {p : Program} {l : Launch} {e : Env} {R : Room} {s : State} {m : MethodId} {args : Array Value} {below : List Frame} {meth : Method} {c : Code} {H : Heap} {locs : List Loc} {cells slots : Nat}
theorem em_callD {T : State} {locs : List Loc} {cells slots : Nat} (X : Stand p l e R s m args below meth c T locs cells slots) (hexec : p.tables.exec = Jvm.exec) {own C owner : String} {index : Nat} {x y : MethodName}
    (hown : s.vm.findClass own = some m.cls) (hlink : (Cond.methodLink own index x).before args s = true) (hsame : (Cond.sameMethod x.cls owner x.name x.desc).before args s = true)
    (hd0 : va_Decl s ⟨owner, x.name, x.desc⟩) (howner : owner ≠ "java/lang/invoke/MethodHandle" ∧ owner ≠ "java/lang/invoke/VarHandle")
    (hsel : (Cond.landsInDefault C x y).before args s = true) (hinst : (Cond.instanceMethod y).before args s = true)
    {W : Nat} {Pre : Pt → Array Value → Prop} {Post : Pt → Array Value → Option Value → Pt → Prop} {PostX : Pt → Array Value → Addr → Pt → Prop} (hK : vx_Back l R p e below s args y 3 W Pre Post PostX)
    {b : Addr} {cellB : Cell} (hcell : T.heap[b]? = some cellB) (hobj : cellB.vm.isStatics = false) (hcls : s.vm.findClass C = some cellB.cls)
    {g : JFrame} (hg : g.method = m) (hsize : g.locals.size = c.maxLocals) {argsL rest : List Value} (hlen : ∀ sig, parseMethodDescriptor x.desc = some sig → argsL.length = sig.parameters.length)
    (hstack : g.stack = argsL.reverse ++ .ref b :: rest) (hW : 2 * g.monitorRoom + (rest.map fun v => v.category).sum ≤ W) (hdg : decode c.code g.pc = .ok (.invokevirtual index, 3))
    (hpre : ∀ vm₁, s.WarmedH vm₁ → Pre ⟨T.setVm vm₁, locs, cells, slots⟩ (Value.ref b :: argsL).toArray) :
    (∃ (v : Option Value) (vm₁ : Vm) (B : Pt), s.WarmedH vm₁ ∧ Stand p l e R s m args below meth c B.U B.locs B.cells B.slots ∧ Post ⟨T.setVm vm₁, locs, cells, slots⟩ (Value.ref b :: argsL).toArray v B ∧
      ∀ target, Steps p.tables e below (B.U.setTop { g with pc := g.pc + 3, stack := v.toList ++ rest }) target → Steps p.tables e below (T.setTop g) target) ∨
    (∃ (q : Addr) (vm₁ : Vm) (B : Pt), s.WarmedH vm₁ ∧ Stand p l e R s m args below meth c B.U B.locs B.cells B.slots ∧ PostX ⟨T.setVm vm₁, locs, cells, slots⟩ (Value.ref b :: argsL).toArray q B ∧
      Steps p.tables e below (T.setTop g) ((B.U.setTop { g with stack := rest }).pushFrame (.throwing q))) := by
  obtain ⟨r0, r, hn, hrm, hstR, hsigR⟩ := hd0
  obtain ⟨cn, ck, r1, hcn, hck, hni, hf, hn1⟩ := Cond.sameMethod_found hsame
  cases hn.symm.trans hn1
  obtain ⟨mk, methM, hnamed, hmethM, -, habM⟩ := Cond.instanceMethod_spec hinst
  obtain ⟨c2, r2, m2, rm, q1, q2, q3, q5, q4, ⟨kP, hkP, hkPi⟩, -, q7⟩ := Cond.landsInDefault_spec hsel
  cases hcls.symm.trans q1
  cases hf.symm.trans q2
  cases hnamed.symm.trans q3
  cases hrm.symm.trans q5
  have hselP : selectMethod e.platform s.vm cellB.cls r0 = .method mk := by rw [Launch.admits_selectMethod X.admits]; exact q4
  obtain ⟨vm₁, X₁, hstep₁⟩ := X.invokevirtualUpD hexec hown hlink hsame howner hn hrm hstR (a := b) (cell := cellB) hcell
    (fun z h => by rw [h] at hobj; cases hobj) hselP hmethM habM hkP hkPi q7 (g := g) hg (argsL := argsL) (rest := rest) (hlen _ hsigR) hstack hdg
  rcases hK m meth c ⟨T.setVm vm₁, locs, cells, slots⟩ { g with stack := rest } (.invokevirtual index) mk (Value.ref b :: argsL).toArray X₁ hg hsize hdg hW (X₁.named hnamed) (hpre vm₁ X₁.warmed) with ⟨v, B, X', hpost, hsteps⟩ | ⟨q, B, X', hpost, hsteps⟩
  · exact Or.inl ⟨v, vm₁, B, X₁.warmed, X', hpost, fun target h => hstep₁ _ fun acts => by rw [doInvoke_state]; exact hsteps.trans h⟩
  · exact Or.inr ⟨q, vm₁, B, X₁.warmed, X', hpost, hstep₁ _ fun acts => by rw [doInvoke_state]; exact hsteps⟩
theorem em_runD {x y : MethodName} {bytes cc : ByteArray} {maxL nL mc ms n index : Nat} {ret : Option FieldType} {ws : List Cond} {rm : Room} {Pc : Array Value → State → Prop} {Qc : Array Value → State → Outcome → State → Prop} {XC : String → Addr → State → State → Prop} {free : Addr → Prop} {Ts : List Cond} {own C owner : String} {b : Addr} {As rest : List Value} {g : JFrame}
    (S : CallFix p m c cc nL s args Ts own) (hM : vx_Met l y ws rm Pc Qc XC mc ms free) (hrc : rm.cells = mc) (hrs : rm.slots = ms) (hfr : rm.frames + 1 ≤ R.frames) (hlo : 8 + (maxL + 11) + rm.locals ≤ R.locals) (hws : ∀ w ∈ ws, ∀ a' U, s.WarmedH U.vm → w.before a' U = true) (hcw : Cond.code y bytes maxL ret ∈ ws)
    (hini : (Cond.initialized y.cls).before args s = true) (hlink : (Cond.methodLink own index x).before args s = true) (hsame : (Cond.sameMethod x.cls owner x.name x.desc).before args s = true) (hdecl : va_Decl s ⟨owner, x.name, x.desc⟩) (hmh : owner ≠ "java/lang/invoke/MethodHandle" ∧ owner ≠ "java/lang/invoke/VarHandle") (hsel : (Cond.landsInDefault C x y).before args s = true) (hinst : (Cond.instanceMethod y).before args s = true) (hlen : ∀ sig, parseMethodDescriptor x.desc = some sig → n = sig.parameters.length)
    (hp : PreV s H C b Pc As)
    (hg : g.method = m) (hn : As.length = n) (hsize : g.locals.size = nL) (hstack : g.stack = As.reverse ++ .ref b :: rest) (hW : 2 * g.monitorRoom + (rest.map fun v => v.category).sum ≤ 8) (hdg : decode cc g.pc = .ok (.invokevirtual index, 3)) (hf : cells + mc ≤ R.cells ∧ slots + ms ≤ R.slots) :
    vx_Run p l e R s m args below meth c H locs cells slots mc ms g rest (Qc (Value.ref b :: As).toArray) XC free := by
  have hK : vx_Back l R p e below s args y 3 8 (PreOf R mc ms Pc) (PostOf Qc mc ms free) (vx_Post XC mc ms free) := vx_back (bytes := bytes) (maxL := maxL) (ret := ret) hM hp.1 hrc hrs hfr hlo hws hcw (fun a' U hW => word_at hW (Or.inl (by first | rfl | simp [Cond.onTables, Cond.keeps, Cond.steady])) hini)
  obtain ⟨hx, hb, hml, ho, -⟩ := S
  obtain ⟨-, ⟨cellB, hcB, hoB, hclB⟩, hPc⟩ := hp
  intro T hT X
  rcases em_callD X hx (C := C) (owner := owner) ho hlink hsame hdecl hmh hsel hinst hK (by rw [hT]; exact hcB) hoB hclB hg (hsize.trans hml.symm) (argsL := As) (rest := rest) (fun sig h => hn.trans (hlen sig h)) hstack hW (by rw [hb]; exact hdg)
    (fun vm₁ hW₁ => ⟨hf.1, hf.2, hPc (T.setVm vm₁) hT hW₁⟩) with ⟨v, vm₁, ⟨U', l2, c2, s2⟩, hW₁, X', ⟨g', mk, t, L, e1, e2, hq, h1, hL, h2, h3⟩, st⟩ | ⟨q, vm₁, ⟨U', l2, c2, s2⟩, hW₁, X', ⟨g', mk, t, L, E, ce, e1, e2, hq, hce, hcv, hcl, h1, hL, h2, h3⟩, st⟩
  · dsimp only [Pt.U, Pt.locs, Pt.cells, Pt.slots] at X' e1 e2 h1 h2 h3 st
    subst h1; subst h2; subst h3
    exact Or.inl ⟨v, (T.setVm vm₁).calling g' mk (Value.ref b :: As).toArray, t, U', L, hT, X', hL, e1, e2, hq, st⟩
  · dsimp only [Pt.U, Pt.locs, Pt.cells, Pt.slots] at X' e1 e2 h1 h2 h3 st hcl
    subst h1; subst h2; subst h3
    exact Or.inr ⟨q, (T.setVm vm₁).calling g' mk (Value.ref b :: As).toArray, t, U', L, E, ce, hT, X', hL, e1, e2, hq, hce, hcv, vx_cls hW₁ hcl, st⟩
end EMD
section EMC2
variable {P : em_M} {T : em_T} {KK : State → Prop} {g : em_G} {D : va_G} {dA : Nat → ClassId} {aty : Nat → FieldType} {cl : List vw_C} {base : Nat} {H00 : Heap}
/-- a private method of a class above the receiver's -/
theorem em_r_OP (hKW : ∀ s U : State, s.WarmedH U.vm → KK s → KK U) {mm pc idx c k m0 : Nat} {r : vw_C} (hd : decode (T mm).2.1 pc = .ok (.invokevirtual idx, 3)) (hc : em_cd P T m0 c) (hk : k < 100) (hr : cl[k]? = some r) (t : ∀ w ∈ ([.methodLink (T mm).1.cls idx (T m0).1, .sameMethod (T m0).1.cls (T m0).1.cls (T m0).1.name (T m0).1.desc, .privateMethod (T m0).1, .instanceMethod (T m0).1, .initialized (T m0).1.cls] : List Cond), w ∈ lw_all) : em_CR P T KK D dA aty cl base H00 mm pc 3 c k m0 := by
  intro p l e R s m args below meth c9 d w b As st' CK hlen h8 Qc XC mc ms free lsM H locs cells slots hsz hw hkd hM hf
  obtain ⟨⟨hx, hb, hown, hts, hml, hK, hcf⟩, hKK, hmn, hnm, hrt, hlk, htb, hf1, hl1, -, -⟩ := CK
  rw [hc.ws] at hM
  have hR := em_room (mc := mc) (ms := ms) hf1 hl1 hc.2.2.1
  have u := fun w hw => hts w (t w hw)
  have hi : (Cond.instanceMethod (T m0).1).before args s = true := u _ (by simp)
  have hcode := hts _ hc.2.1
  exact vx_runU (C := r.1) (owner := (T m0).1.cls) (x := (T m0).1) (As := As) (rest := st') ⟨hx, hb, hml, hown, hts⟩ hM ⟨⟨rfl, rfl, hR.1, hR.2, pay_in hts (lw_meth hc.2.1), List.mem_cons_self⟩, hcode, u _ (by simp), ⟨hc.2.2.2.1, hc.2.2.2.2.1⟩, fun sig h => by
    have h2 := hc.2.2.2.2.2
    rw [h] at h2
    exact (Option.some.inj h2).symm, u _ (by simp), u _ (by simp), va_Decl.of hi hcode, em_selP (em_kcls (dA := dA) hK hk hr) (u _ (by simp)) (u _ (by simp)), hi⟩ (em_preV hKW hcf.1 hKK hw hkd (em_kcls hK hk hr)) rfl hlen hsz rfl (lv_room h8) hd hf
/-- an interface's default -/
theorem em_r_D (hKW : ∀ s U : State, s.WarmedH U.vm → KK s → KK U) {mm pc idx c k m0 : Nat} {r : vw_C} {x : MethodName} (hd : decode (T mm).2.1 pc = .ok (.invokevirtual idx, 3)) (hc : em_cd P T m0 c) (hk : k < 100) (hr : cl[k]? = some r) (hn : x.name = (T m0).1.name) (hds : x.desc = (T m0).1.desc) (t2 : Cond.instanceMethod (T m0).1 ∈ lw_all) (t3 : Cond.initialized (T m0).1.cls ∈ lw_all) (hl : ∀ s args, KK s → (Cond.methodLink (T mm).1.cls idx x).before args s = true) (hs : ∀ s args, KK s → (Cond.sameMethod x.cls (T m0).1.cls x.name x.desc).before args s = true) (hL : ∀ s args, KK s → (Cond.landsInDefault r.1 x (T m0).1).before args s = true) : em_CR P T KK D dA aty cl base H00 mm pc 3 c k m0 := by
  intro p l e R s m args below meth c9 d w b As st' CK hlen h8 Qc XC mc ms free lsM H locs cells slots hsz hw hkd hM hf
  obtain ⟨⟨hx, hb, hown, hts, hml, hK, hcf⟩, hKK, hmn, hnm, hrt, hlk, htb, hf1, hl1, -, -⟩ := CK
  rw [hc.ws] at hM
  have hR := em_room (mc := mc) (ms := ms) hf1 hl1 hc.2.2.1
  have hcode := hts _ hc.2.1
  have hi := hts _ t2
  exact em_runD (C := r.1) (owner := (T m0).1.cls) (x := x) (As := As) (rest := st') ⟨hx, hb, hml, hown, hts⟩ hM rfl rfl hR.1 hR.2 (pay_in hts (lw_meth hc.2.1)) List.mem_cons_self (hts _ t3) (hl _ _ hKK) (hs _ _ hKK) (by rw [hn, hds]; exact va_Decl.of hi hcode) ⟨hc.2.2.2.1, hc.2.2.2.2.1⟩ (hL _ _ hKK) hi (fun sig h => by
    have h2 := hc.2.2.2.2.2
    rw [← hds, h] at h2
    exact (Option.some.inj h2).symm) (em_preV hKW hcf.1 hKK hw hkd (em_kcls hK hk hr)) rfl hlen hsz rfl (lv_room h8) hd hf
end EMC2
section EMX
variable {p : Program} {l : Launch} {e : Env} {R : Room} {s : State} {m : MethodId} {args : Array Value} {below : List Frame} {meth : Method} {c : Code} {Q : State → Prop}
variable {D : va_G} {dA : Nat → ClassId} {aty : Nat → FieldType} {cl : List vw_C} {base nL s0 : Nat} {H00 : Heap} {cc : ByteArray} {own : String} {w : em_W} {ls st : List Value} {pc n : Nat} {nw : List Cond} {g : em_G}
theorem em_i_ldcwS (C : em_Cx p s m args c cc own nL D cl) {index i : Nat} {tx : String} (hd : decode cc pc = .ok (.ldc_w index, 3)) (hr : vk_R own index tx (g.1 i) s) : em_Sp p l e R s m args below meth c Q D dA aty cl base nL s0 H00 w ls st pc (em_lt g pc 3 ls st [1, i]) := by
  intro pc' ls' st' h q _ _ kk
  obtain ⟨rfl, rfl, rfl, rfl⟩ := em_nx_inv q
  refine em_plain kk fun lsM H locs cells slots hl k2 => ?_
  intro T hT X
  obtain ⟨t, a1, b1⟩ := k2 T hT X
  exact ⟨t, X.ldcStringW C.1 C.2.2.1 (text := tx) (a := g.1 i) hr.1 hr.2 (g := F0 m pc lsM st) rfl (by rw [C.2.1]; exact hd) t a1, b1⟩
theorem em_i_ldc2n (C : em_Cx p s m args c cc own nL D cl) {index x : Nat} (hd : decode cc pc = .ok (.ldc2_w index, 3)) (hlk : Cond.constantLong own index (-(Int64.ofNat x)) ∈ lw_all) : em_Sp p l e R s m args below meth c Q D dA aty cl base nL s0 H00 w ls st pc (em_l2 pc 3 ls st [x, 1]) := by
  intro pc' ls' st' h q _ _ kk
  obtain ⟨rfl, rfl, rfl, rfl⟩ := em_nx_inv q
  exact em_plain kk fun lsM H locs cells slots hl k2 => lv_ldc2 C.1 C.2.1 C.2.2.1 (C.2.2.2.1 _ hlk) hd k2
end EMX
section EMO2
variable {P : em_M} {T : em_T} {KK : State → Prop} {g : em_G} {D : va_G} {dA : Nat → ClassId} {aty : Nat → FieldType} {cl : List vw_C} {base : Nat} {H00 : Heap}
variable {mm pc : Nat} {cc : ByteArray} {own : String}
theorem em_o_ldcwS {idx i : Nat} {tx : String} (hc : (T mm).2.1 = cc) (ho : (T mm).1.cls = own) (hd : decode cc pc = .ok (.ldc_w idx, 3)) (hr : ∀ s, KK s → vk_R own idx tx (g.1 i) s) : em_IOK P T KK g D dA aty cl base H00 mm (pc, (.ldc_w idx, 3, [1, i])) := by
  subst hc
  subst ho
  exact em_ok_of rfl hd rfl rfl fun p l e R s m args below meth c Q s0 d ls st w CK => em_i_ldcwS CK.1 hd (hr _ CK.2.1)
theorem em_o_ldc2n {idx x : Nat} (hc : (T mm).2.1 = cc) (ho : (T mm).1.cls = own) (hd : decode cc pc = .ok (.ldc2_w idx, 3)) (hlk : Cond.constantLong own idx (-(Int64.ofNat x)) ∈ lw_all) : em_IOK P T KK g D dA aty cl base H00 mm (pc, (.ldc2_w idx, 3, [x, 1])) := by
  subst hc
  subst ho
  exact em_ok_of rfl hd rfl rfl fun p l e R s m args below meth c Q s0 d ls st w CK => em_i_ldc2n CK.1 hd hlk
end EMO2
