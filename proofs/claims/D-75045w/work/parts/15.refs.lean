/-! SOUNDNESS: references in arrays, casts, copies, constants -/
/-- a thing of the kind kq may lie in an array of the kind k -/
def em_sta (s : State) (D : va_G) (dA : Nat → ClassId) (k kq : Nat) : Prop := ∃ (kA : Class) (comp : ClassId) (t : FieldType) (kcomp kv : Class), s.vm.classes[dA k]? = some kA ∧ kA.kind = .array comp t ∧ t.isReference = true ∧ s.vm.classes[comp]? = some kcomp ∧ s.vm.classes[em_kc D dA kq]? = some kv ∧ s.vm.assignable (em_kc D dA kq) comp = true
/-- a thing of the kind k is (b) or isn't of the class nm -/
def em_csb (s : State) (D : va_G) (dA : Nat → ClassId) (nm : String) (b : Bool) (k : Nat) : Prop := ∃ (t : ClassId) (kv : Class), s.vm.findClass nm = some t ∧ s.vm.classes[em_kc D dA k]? = some kv ∧ s.vm.assignable (em_kc D dA k) t = b
theorem em_aok_ref {w : em_W} {tk : List Nat} {k x : Nat} (h : em_aok w tk k (.ref x) = true) : ∃ kq, em_kd w x = some kq ∧ 1000 * k + kq ∈ tk := by
  unfold em_aok at h
  dsimp only at h
  cases hq : em_kd w x with
  | none => rw [hq] at h; cases h
  | some kq => rw [hq] at h; exact ⟨kq, rfl, by simpa using h⟩
section EMR
variable {p : Program} {l : Launch} {e : Env} {R : Room} {s : State} {m : MethodId} {args : Array Value} {below : List Frame} {meth : Method} {c : Code} {Q : State → Prop}
variable {D : va_G} {dA : Nat → ClassId} {aty : Nat → FieldType} {cl : List vw_C} {base nL s0 : Nat} {H00 : Heap} {cc : ByteArray} {own : String} {w : em_W} {ls st : List Value} {pc n : Nat} {nw : List Cond} {g : em_G}
theorem em_i_arraylength (C : em_Cx p s m args c cc own nL D cl) (hka : ∀ k, k < 9 → em_ka dA aty s k) (hd : decode cc pc = .ok (.arraylength, 1)) : em_Sp p l e R s m args below meth c Q D dA aty cl base nL s0 H00 w ls st pc (em_ln pc 1 ls w st) := by
  intro pc' ls' st' h q _ _ kk
  unfold em_ln at q
  split at q
  · split at q
    · rename_i k len f hf
      split at q
      · rename_i hk
        obtain ⟨rfl, rfl, rfl, rfl⟩ := em_nx_inv q
        intro lsM H locs cells slots h1 h2 h3 h4 h5
        obtain ⟨cell, g1, g2, g3, g4, g5, -⟩ := em_arr_of hka h2 (em_ar_some hf) hk
        exact W.alen (n := Int32.ofNat len) C.1 C.2.1 g1 g2 (by rw [g4] <;> rfl) rfl rfl hd (kk lsM H locs cells slots h1 h2 h3 h4 h5)
      · cases q
    · cases q
  · cases q
theorem em_i_aastore (C : em_Cx p s m args c cc own nL D cl) (hka : ∀ k, k < 9 → em_ka dA aty s k) (hty : em_tyK aty) {tk : List Nat} (hst : ∀ k kq, 1000 * k + kq ∈ tk → k < 100 ∧ em_sta s D dA k kq ∧ (aty k).isReference = true) (hd : decode cc pc = .ok (.aastore, 1)) : em_Sp p l e R s m args below meth c Q D dA aty cl base nL s0 H00 w ls st pc (em_aa pc 1 tk ls w st) := by
  intro pc' ls' st' h q _ _ kk
  unfold em_aa at q
  split at q
  · rename_i v i a rest
    split at q
    · rename_i k len f hf
      have hf := em_ar_some hf
      split at q
      · rename_i hk
        simp only [Bool.and_eq_true, decide_eq_true_eq] at hk
        obtain ⟨hk1, hk2⟩ := hk
        split at q
        · cases q
        · rename_i hc
          cases q
          intro lsM H locs cells slots h1 h2 h3 h4 h5
          match v, hk2, kk with
          | .null, hk2, kk =>
            simp only [em_aok, Bool.and_eq_true, decide_eq_true_eq] at hk2
            have hmod : k % 1000 = k := Nat.mod_eq_of_lt hk1
            have hk9 : k = 4 ∨ k = 5 ∨ k = 6 := by omega
            obtain ⟨cell, g1, g2, g3, g4, g5, g6, g7, g8, g9⟩ := em_arr_of hka h2 hf (by omega)
            have g8 := g8 hk1
            subst g8
            rw [hmod] at g1 g2 g4
            obtain ⟨_, _, _, _, ⟨C4, t4⟩, ⟨C5, t5⟩, ⟨C6, t6⟩, _, _⟩ := hty
            have hob : ∃ C0, aty k = .object C0 := by
              rcases hk9 with rfl | rfl | rfl
              · exact ⟨_, t4⟩
              · exact ⟨_, t5⟩
              · exact ⟨_, t6⟩
            obtain ⟨C0, hC0⟩ := hob
            rw [hC0] at g2
            refine va_WaastN C.1 C.2.1 g1 g2 (fun z => by cases z) (by rw [g4]; exact hc) rfl rfl hd fun H1 e1 e2 e3 => ?_
            obtain ⟨hw, hb⟩ := em_stored (v := .null) h2 hf (by omega) (by rw [hC0]; rfl) e1 e2 e3
            exact kk lsM H1 _ cells slots h1 hw (em_locs h3 hb) h4 h5
          | .ref x, hk2, kk =>
            obtain ⟨kq, hkq, hk2⟩ := em_aok_ref hk2
            obtain ⟨hk100, ⟨kA, comp, t, kcomp, kv, s1, s2, s3, s4, s5, s6⟩, href⟩ := hst k kq hk2
            have hmod : k % 1000 = k := Nat.mod_eq_of_lt hk1
            obtain ⟨cv, c1, c2, c3⟩ := em_kd_cell C.2.2.2.2.2.2.1 h2 hkq
            obtain ⟨⟨⟨_, hfit⟩, cell, g1, g2, g3, g4, g5, g6, g7⟩, -⟩ := h2.2.2.2 _ _ hf
            have g7 := g7 hk1
            dsimp only at g1 g2 g3 g4 g5 g6 g7
            subst g7
            rw [hmod] at g1 g2 g5
            refine W.aast C.1 C.2.1 (comp := comp) (t := t) g1 g3 g4 s1 s2 s3 s4 ⟨fun z => hc (Or.inl z), by rw [hmod] at *; rw [arrV_size]; exact em_lt_of hc⟩ c1 c2 (by rw [c3]; exact s5) (by rw [c3]; exact s6) rfl rfl hd fun H1 e1 e2 e3 => ?_
            obtain ⟨hw, hb⟩ := em_stored (v := .ref x) h2 hf hk100 (by cases hh : aty k <;> first | rfl | (rw [hh] at href; cases href)) e1 e2 e3
            exact kk lsM H1 _ cells slots h1 hw (em_locs h3 hb) h4 h5
          | .int _, hk2, kk => cases hk2
          | .long _, hk2, kk => cases hk2
          | .float _, hk2, kk => cases hk2
          | .double _, hk2, kk => cases hk2
          | .retAddr _, hk2, kk => cases hk2
      · cases q
    · cases q
  · cases q
theorem em_i_checkcast (C : em_Cx p s m args c cc own nL D cl) {index : Nat} {nm : String} {ks : List Nat} (hd : decode cc pc = .ok (.checkcast index, 3)) (hlk : Cond.classLink own index nm ∈ lw_all) (hk : ∀ k ∈ ks, em_csb s D dA nm true k) : em_Sp p l e R s m args below meth c Q D dA aty cl base nL s0 H00 w ls st pc (em_cc pc 3 ks ls w st) := by
  intro pc' ls' st' h q _ _ kk
  unfold em_cc at q
  split at q
  · obtain ⟨rfl, rfl, rfl, rfl⟩ := em_nx_inv q
    exact em_plain kk fun lsM H locs cells slots hl k2 => lv_castN C.1 C.2.1 hd k2
  · rename_i a rest
    split at q
    · rename_i k hkd
      split at q
      · rename_i hks
        obtain ⟨rfl, rfl, rfl, rfl⟩ := em_nx_inv q
        obtain ⟨t, kv, s1, s2, s3⟩ := hk k (by simpa using hks)
        intro lsM H locs cells slots h1 h2 h3 h4 h5
        have k2 := kk lsM H locs cells slots h1 h2 h3 h4 h5
        obtain ⟨cv, c1, c2, c3⟩ := em_kd_cell C.2.2.2.2.2.2.1 h2 hkd
        intro T hT X
        obtain ⟨vm', X', st9⟩ := X.checkcastYes C.1 C.2.2.1 (C.2.2.2.1 _ hlk) (by rw [hT]; exact c1) (em_notst c2) s1 (by rw [c3]; exact s3) (g := F0 m pc lsM (.ref a :: rest)) rfl rfl (by rw [C.2.1]; exact hd)
        obtain ⟨t9, a1, b1⟩ := k2 (T.setVm vm') hT X'
        exact ⟨t9, st9 t9 a1, b1⟩
      · cases q
    · cases q
  · cases q
theorem em_i_instanceof (C : em_Cx p s m args c cc own nL D cl) {index : Nat} {nm : String} {j : Nat} {ks : List Nat} (hd : decode cc pc = .ok (.instanceof index, 3)) (hlk : Cond.classLink own index nm ∈ lw_all) (hk1 : ∀ k ∈ ks.take j, em_csb s D dA nm true k) (hk2 : ∀ k ∈ ks.drop j, em_csb s D dA nm false k) : em_Sp p l e R s m args below meth c Q D dA aty cl base nL s0 H00 w ls st pc (em_io pc 3 (j :: ks) ls w st) := by
  intro pc' ls' st' h q _ _ kk
  unfold em_io at q
  split at q
  · obtain ⟨rfl, rfl, rfl, rfl⟩ := em_nx_inv q
    exact em_plain kk fun lsM H locs cells slots hl k2 => lv_instN C.1 C.2.1 hd k2
  · rename_i a rest
    split at q
    · rename_i k j' ks' hkd hks
      cases hks
      split at q
      · rename_i hks
        obtain ⟨rfl, rfl, rfl, rfl⟩ := em_nx_inv q
        obtain ⟨t, kv, s1, s2, s3⟩ := hk1 k (by simpa using hks)
        intro lsM H locs cells slots h1 h2 h3 h4 h5
        have k2 := kk lsM H locs cells slots h1 h2 h3 h4 h5
        obtain ⟨cv, c1, c2, c3⟩ := em_kd_cell C.2.2.2.2.2.2.1 h2 hkd
        intro T hT X
        obtain ⟨vm', X', st9⟩ := X.instanceofYes C.1 C.2.2.1 (C.2.2.2.1 _ hlk) (by rw [hT]; exact c1) (em_notst c2) s1 (by rw [c3]; exact s3) (g := F0 m pc lsM (.ref a :: rest)) rfl rfl (by rw [C.2.1]; exact hd)
        obtain ⟨t9, a1, b1⟩ := k2 (T.setVm vm') hT X'
        exact ⟨t9, st9 t9 a1, b1⟩
      · split at q
        · rename_i hks
          obtain ⟨rfl, rfl, rfl, rfl⟩ := em_nx_inv q
          obtain ⟨t, kv, s1, s2, s3⟩ := hk2 k (by simpa using hks)
          intro lsM H locs cells slots h1 h2 h3 h4 h5
          have k2 := kk lsM H locs cells slots h1 h2 h3 h4 h5
          obtain ⟨cv, c1, c2, c3⟩ := em_kd_cell C.2.2.2.2.2.2.1 h2 hkd
          intro T hT X
          obtain ⟨vm', X', st9⟩ := va_instofNo X C.1 C.2.2.1 (C.2.2.2.1 _ hlk) (by rw [hT]; exact c1) (em_notst c2) (by rw [c3]; exact s2) s1 (by rw [c3]; exact s3) (g := F0 m pc lsM (.ref a :: rest)) rfl rfl (by rw [C.2.1]; exact hd)
          obtain ⟨t9, a1, b1⟩ := k2 (T.setVm vm') hT X'
          exact ⟨t9, st9 t9 a1, b1⟩
        · cases q
    · cases q
  · cases q
theorem em_i_ldcI (C : em_Cx p s m args c cc own nL D cl) {index x : Nat} (hd : decode cc pc = .ok (.ldc index, 2)) (hlk : Cond.constant own index (Int32.ofNat x) ∈ lw_all) : em_Sp p l e R s m args below meth c Q D dA aty cl base nL s0 H00 w ls st pc (em_lt g pc 2 ls st [0, x]) := by
  intro pc' ls' st' h q _ _ kk
  obtain ⟨rfl, rfl, rfl, rfl⟩ := em_nx_inv q
  exact em_plain kk fun lsM H locs cells slots hl k2 => lv_ldc C.1 C.2.1 C.2.2.1 (C.2.2.2.1 _ hlk) hd k2
theorem em_i_ldcwI (C : em_Cx p s m args c cc own nL D cl) {index x : Nat} (hd : decode cc pc = .ok (.ldc_w index, 3)) (hlk : Cond.constant own index (Int32.ofNat x) ∈ lw_all) : em_Sp p l e R s m args below meth c Q D dA aty cl base nL s0 H00 w ls st pc (em_lt g pc 3 ls st [0, x]) := by
  intro pc' ls' st' h q _ _ kk
  obtain ⟨rfl, rfl, rfl, rfl⟩ := em_nx_inv q
  exact em_plain kk fun lsM H locs cells slots hl k2 => lv_ldcw C.1 C.2.1 C.2.2.1 (C.2.2.2.1 _ hlk) hd k2
theorem em_i_ldc2 (C : em_Cx p s m args c cc own nL D cl) {index x : Nat} (hd : decode cc pc = .ok (.ldc2_w index, 3)) (hlk : Cond.constantLong own index (Int64.ofNat x) ∈ lw_all) : em_Sp p l e R s m args below meth c Q D dA aty cl base nL s0 H00 w ls st pc (em_l2 pc 3 ls st [x]) := by
  intro pc' ls' st' h q _ _ kk
  obtain ⟨rfl, rfl, rfl, rfl⟩ := em_nx_inv q
  exact em_plain kk fun lsM H locs cells slots hl k2 => lv_ldc2 C.1 C.2.1 C.2.2.1 (C.2.2.2.1 _ hlk) hd k2
end EMR
