/-! SOUNDNESS of the steps that make cells, and of those on arrays -/
def em_tyK (aty : Nat → FieldType) : Prop := aty 0 = .int ∧ aty 1 = .byte ∧ aty 2 = .boolean ∧ aty 3 = .long ∧ (∃ C, aty 4 = .object C) ∧ (∃ C, aty 5 = .object C) ∧ (∃ C, aty 6 = .object C) ∧ aty 7 = .array .int ∧ aty 8 = .int
section EMA
variable {p : Program} {l : Launch} {e : Env} {R : Room} {s : State} {m : MethodId} {args : Array Value} {below : List Frame} {meth : Method} {c : Code} {Q : State → Prop}
variable {D : va_G} {dA : Nat → ClassId} {aty : Nat → FieldType} {cl : List vw_C} {base nL s0 : Nat} {H00 : Heap} {cc : ByteArray} {own : String} {w : em_W} {ls st : List Value} {pc n : Nat} {nw : List Cond} {g : em_G}
theorem em_i_getstatic (C : em_Cx p s m args c cc own nL D cl) (hnw : ∀ x ∈ nw, va_Nw x s) {index i : Nat} {C0 nm ds ref : String} (hd : decode cc pc = .ok (.getstatic index, 3)) (hz : va_Z C0 nm ds (g.2 i) (fun q => base ≤ q) s H00) (hlk : em_lkF own nw index ref nm ds) (hrf : em_rfF ref C0 nm ds) : em_Sp p l e R s m args below meth c Q D dA aty cl base nL s0 H00 w ls st pc (em_gs g pc 3 [] ls st [i]) := by
  intro pc' ls' st' h q _ _ kk
  obtain ⟨rfl, rfl, rfl, rfl⟩ := em_nx_inv q
  intro lsM H locs cells slots h1 h2 h3 h4 h5
  have k2 := kk lsM H locs cells slots h1 h2 h3 h4 h5
  obtain ⟨hx, hb, hown, hts, -, hK, hcf⟩ := C
  obtain ⟨cf, kf, fi, f, a, cell, z1, z2, z3, z4, z5, z6, z7, z8⟩ := hz
  have hc : H[a]? = some cell := (h2.2.2.1 a (Nat.lt_of_not_le z8)).trans z5
  have hkn : cell.vm ≠ .unknown := fun e => by rw [e] at z6; cases z6
  rcases hlk with hlk | ⟨host, hlk⟩
  · exact W.gets hx hb hown (hts _ hlk) (hrf.use hts _ z1) z2 z3 z4 hc hkn z7 rfl hd k2
  · exact va_WgetsN hx hb hown (va_Nw.use rfl (hnw _ hlk)) (hrf.use hts _ z1) z2 z3 z4 hc hkn z7 rfl hd k2
theorem em_i_new (C : em_Cx p s m args c cc own nL D cl) {index k sl : Nat} {ts : List Nat} {r : vw_C} (hd : decode cc pc = .ok (.new index, 3)) (hr : cl[k]? = some r) (hk : k < 1000) (hsl : sl = r.2.2) (hlen : ts.length = r.2.2) (h1 : Cond.classLink own index r.1 ∈ lw_all) (h2 : Cond.instantiable r.1 r.2.2 ∈ lw_all) (h3 : Cond.initialized r.1 ∈ lw_all)
    (hdf : ∀ (j : Nat) (ty : FieldType), j < r.2.2 → parseFieldDescriptor (r.2.1 j).2.2.1 = some ty → some (defaultValue ty) = (ts.map em_df)[j]?) : em_Sp p l e R s m args below meth c Q D dA aty cl base nL s0 H00 w ls st pc (em_nw pc 3 ls st w (0 :: k :: sl :: ts)) := by
  intro pc' ls' st' h q r1 r2 kk
  unfold em_nw at q
  cases q
  intro lsM H locs cells slots g1 g2 g3 g4 g5
  obtain ⟨hx, hb, hown, hts, -, hK, hcf⟩ := C
  obtain ⟨hin, ⟨ty0, hty0⟩, hnm⟩ := hcf.2 _ _ hr
  have hKn := hK.1 _ _ hr
  have r1 : w.1 + 1 ≤ s.heap.size + R.cells := r1
  have r2 : w.2.1 + sl ≤ s0 + R.slots := r2
  have hmod : k % 1000 = k := Nat.mod_eq_of_lt hk
  refine W.newcK hx hb hown (hts _ h1) (hts _ h2) (hts _ h3) rfl hd (by omega) (by omega) hKn.2.1 rfl fun H1 kC hkC e1 z1 o1 => ?_
  have hz : H.size = w.1 := g2.1
  rw [show (.ref H.size : Value) = .ref w.1 by rw [hz]]
  refine kk lsM H1 locs (cells + 1) (slots + r.2.2) g1 (g2.new z1 (Or.inl ⟨r, by dsimp only; rw [hmod]; exact hr, by dsimp only; rw [List.length_map]; exact hlen, ?_⟩) o1) g3 (by show _ = w.1 + 1; omega) (by show _ = w.2.1 + sl; omega)
  dsimp only
  rw [hmod]
  refine (u_born ty0 hts hin hKn hkC e1 hty0).to (fun j hj => ?_)
  have := hdf j (ty0 j) hj (hty0 j hj)
  show defaultValue (ty0 j) = vp_V _ j
  unfold vp_V
  rw [List.getD_eq_getElem?_getD, ← this]
  rfl
theorem em_arr_cok {k N : Nat} {f : Nat → Value} {H1 : Heap} {a : Nat} (hk : k < 100) (he : H1[a]? = some (arrV (dA k) N f)) (hf : ∀ j, j < N → fits (aty k) (f j) = true) : em_cok D dA aty cl H1 a (.inr (k, N, f)) := by
  have hmod : k % 1000 = k := Nat.mod_eq_of_lt (by omega)
  refine ⟨⟨by dsimp only; omega, fun j hj => by dsimp only; rw [hmod]; exact hf j hj⟩, _, he, by dsimp only; rw [hmod]; rfl, fun q z => (by cases z), fun z => (by cases z), arrV_size _ _ _, fun j hj => arrV_read _ _ hj, fun _ => by dsimp only; rw [hmod]⟩
theorem em_i_newarray (C : em_Cx p s m args c cc own nL D cl) {at9 : ArrayType} {k t : Nat} (hd : decode cc pc = .ok (.newarray at9, 2)) (hk : k < 100) (haty : aty k = newarray.typeOf at9) (harr : Cond.arrayClass (newarray.typeOf at9) ∈ lw_all) (hnm : s.vm.findClass ("[" ++ (newarray.typeOf at9).toString) = some (dA k)) (hdf : defaultValue (newarray.typeOf at9) = em_df t) (hfit : fits (newarray.typeOf at9) (em_df t) = true) (hcb : componentBytes (newarray.typeOf at9) ≤ 8) : em_Sp p l e R s m args below meth c Q D dA aty cl base nL s0 H00 w ls st pc (em_na pc 2 ls w [k, t] st) := by
  intro pc' ls' st' h q r1 r2 kk
  unfold em_na at q
  split at q
  · rename_i k' t' x rest hks
    cases hks
    split at q
    · cases q
    · rename_i hc
      cases q
      intro lsM H locs cells slots g1 g2 g3 g4 g5
      obtain ⟨hx, hb, hown, hts, -, hK, hcf⟩ := C
      have r1 : w.1 + 1 ≤ s.heap.size + R.cells := r1
      have r2 : w.2.1 + x.toNatClampNeg ≤ s0 + R.slots := r2
      have hx1 : x.toNatClampNeg ≤ 65536 := Nat.le_of_not_lt fun z => hc (Or.inr z)
      refine va_newaK hx hb (hts _ harr) rfl hd rfl (fun z => hc (Or.inl z)) rfl (Nat.le_trans (Nat.mul_le_mul hx1 hcb) (Nat.le_of_ble_eq_true rfl)) (by omega) (by omega) rfl fun H1 cA e1 z1 o1 _ hcA => ?_
      have hcA2 : cA = dA k := Option.some.inj (hcA.symm.trans hnm)
      subst hcA2
      rw [hdf] at e1
      have hz : H.size = w.1 := g2.1
      rw [show (.ref H.size : Value) = .ref w.1 by rw [hz]]
      exact kk lsM H1 locs (cells + 1) (slots + x.toNatClampNeg) g1 (g2.new z1 (em_arr_cok hk e1 (fun j _ => by rw [haty]; exact hfit)) o1) g3 (by show _ = w.1 + 1; omega) (by show _ = w.2.1 + _; omega)
  · cases q
theorem em_pushed {H : Heap} {N : Nat} {cA : ClassId} {v : Value} : (H.push ({ cls := cA, slots := Array.replicate N v, vm := .none } : Cell)).size = H.size + 1 ∧ (H.push ({ cls := cA, slots := Array.replicate N v, vm := .none } : Cell))[H.size]? = some (arrV cA N (fun _ => v)) ∧ ∀ q, q < H.size → (H.push ({ cls := cA, slots := Array.replicate N v, vm := .none } : Cell))[q]? = H[q]? := by
  refine ⟨by simp, by rw [← arrV_new]; simp, fun q hq => ?_⟩
  rw [Array.getElem?_push, if_neg (Nat.ne_of_lt hq)]
theorem em_i_anewarray (C : em_Cx p s m args c cc own nL D cl) {index k : Nat} {nm : String} (hd : decode cc pc = .ok (.anewarray index, 3)) (hk : k < 100) (haty : aty k = .object nm) (hlk : Cond.classLink own index nm ∈ lw_all) (hover : (Cond.arrayOver (.object nm)).before args s = true) (hnm : s.vm.findClass ("[" ++ (FieldType.object nm).toString) = some (dA k)) : em_Sp p l e R s m args below meth c Q D dA aty cl base nL s0 H00 w ls st pc (em_na pc 3 ls w [k, 2] st) := by
  intro pc' ls' st' h q r1 r2 kk
  unfold em_na at q
  split at q
  · rename_i k' t' x rest hks
    cases hks
    split at q
    · cases q
    · rename_i hc
      cases q
      intro lsM H locs cells slots g1 g2 g3 g4 g5
      obtain ⟨hx, hb, hown, hts, -, hK, hcf⟩ := C
      have r1 : w.1 + 1 ≤ s.heap.size + R.cells := r1
      have r2 : w.2.1 + x.toNatClampNeg ≤ s0 + R.slots := r2
      have hx1 : x.toNatClampNeg ≤ 65536 := Nat.le_of_not_lt fun z => hc (Or.inr z)
      refine W.anew hx hb hown (hts _ hlk) hover rfl hd rfl (fun z => hc (Or.inl z)) (Nat.le_trans (Nat.mul_le_mul_right 4 hx1) (Nat.le_of_ble_eq_true rfl)) (by omega) (by omega) fun cA kA comp hcA _ _ _ => ?_
      have hcA2 : cA = dA k := Option.some.inj (hcA.symm.trans hnm)
      subst hcA2
      obtain ⟨z1, e1, o1⟩ := em_pushed (H := H) (N := x.toNatClampNeg) (cA := dA k) (v := .null)
      have hz : H.size = w.1 := g2.1
      rw [show (.ref H.size : Value) = .ref w.1 by rw [hz]]
      exact kk lsM _ locs (cells + 1) (slots + x.toNatClampNeg) g1 (g2.new z1 (em_arr_cok hk e1 (fun j _ => by rw [haty]; rfl)) o1) g3 (by show _ = w.1 + 1; omega) (by show _ = w.2.1 + _; omega)
  · cases q
theorem em_i_anewarrayA (C : em_Cx p s m args c cc own nL D cl) {index k : Nat} {t9 : FieldType} (hd : decode cc pc = .ok (.anewarray index, 3)) (hk : k < 100) (haty : aty k = .array t9) (hlk : Cond.classLink own index (FieldType.array t9).toString ∈ lw_all) (hover : (Cond.arrayOver (.array t9)).before args s = true) (hnm : s.vm.findClass ("[" ++ (FieldType.array t9).toString) = some (dA k)) : em_Sp p l e R s m args below meth c Q D dA aty cl base nL s0 H00 w ls st pc (em_na pc 3 ls w [k, 2] st) := by
  intro pc' ls' st' h q r1 r2 kk
  unfold em_na at q
  split at q
  · rename_i k' t' x rest hks
    cases hks
    split at q
    · cases q
    · rename_i hc
      cases q
      intro lsM H locs cells slots g1 g2 g3 g4 g5
      obtain ⟨hx, hb, hown, hts, -, hK, hcf⟩ := C
      have r1 : w.1 + 1 ≤ s.heap.size + R.cells := r1
      have r2 : w.2.1 + x.toNatClampNeg ≤ s0 + R.slots := r2
      have hx1 : x.toNatClampNeg ≤ 65536 := Nat.le_of_not_lt fun z => hc (Or.inr z)
      refine W.anewA hx hb hown (hts _ hlk) hover rfl hd rfl (fun z => hc (Or.inl z)) (Nat.le_trans (Nat.mul_le_mul_right 4 hx1) (Nat.le_of_ble_eq_true rfl)) (by omega) (by omega) fun cA kA comp hcA _ _ _ => ?_
      have hcA2 : cA = dA k := Option.some.inj (hcA.symm.trans hnm)
      subst hcA2
      obtain ⟨z1, e1, o1⟩ := em_pushed (H := H) (N := x.toNatClampNeg) (cA := dA k) (v := .null)
      have hz : H.size = w.1 := g2.1
      rw [show (.ref H.size : Value) = .ref w.1 by rw [hz]]
      exact kk lsM _ locs (cells + 1) (slots + x.toNatClampNeg) g1 (g2.new z1 (em_arr_cok hk e1 (fun j _ => by rw [haty]; rfl)) o1) g3 (by show _ = w.1 + 1; omega) (by show _ = w.2.1 + _; omega)
  · cases q
/-- a load from an array: what the real one needs -/
theorem em_al_inv {ks : List Nat} {pc' : Nat} {ls' st' : List Value} {h : em_H} (q : em_al pc n ks ls w st = some (.inr (.inl (pc', ls', st', h)))) : ∃ (i : Int32) (a k len : Nat) (f : Nat → Value) (rest : List Value), st = .int i :: .ref a :: rest ∧ w.2.2 a = some (.inr (k, len, f)) ∧ k % 1000 ∈ ks ∧ ¬ (i < 0 ∨ len ≤ i.toNatClampNeg) ∧ pc' = pc + n ∧ ls' = ls ∧ st' = f i.toNatClampNeg :: rest ∧ h = .inl [] := by
  unfold em_al at q
  split at q
  · rename_i i a rest
    split at q
    · rename_i k len f hf
      split at q
      · rename_i hk
        split at q
        · cases q
        · rename_i hc
          obtain ⟨z1, z2, z3, z4⟩ := em_nx_inv q
          exact ⟨i, a, k, len, f, rest, rfl, em_ar_some hf, by simpa using hk, hc, z1, z2, z3, z4⟩
      · cases q
    · cases q
  · cases q
theorem em_arr_of {a k len : Nat} {f : Nat → Value} {H : Heap} (hka : ∀ k, k < 9 → em_ka dA aty s k) (hw : em_wok D dA aty cl base H00 w H) (h : w.2.2 a = some (.inr (k, len, f))) (hk : k % 1000 < 9) : ∃ cell : Cell, H[a]? = some cell ∧ s.isArrayOf cell (aty (k % 1000)) ∧ cell.vm ≠ .unknown ∧ cell.slots.size = len ∧ (∀ j, j < len → cell.slots[j]? = some (f j)) ∧ (∀ q, cell.vm ≠ .statics q) ∧ cell.cls = dA (k % 1000) ∧ (k < 1000 → cell = arrV (dA (k % 1000)) len f) ∧ (∀ j, j < len → fits (aty (k % 1000)) (f j) = true) := by
  obtain ⟨⟨⟨_, hfit⟩, cell, h1, h2, h3, h4, h5, h6, h7⟩, -⟩ := hw.2.2.2 _ _ h
  exact ⟨cell, h1, (hka _ hk).isA h2 h3, h4, h5, h6, h3, h2, h7, hfit⟩
theorem em_lt_of {i : Int32} {len : Nat} (h : ¬ (i < 0 ∨ len ≤ i.toNatClampNeg)) : i.toNatClampNeg < len := Nat.lt_of_not_le fun z => h (Or.inr z)
theorem em_i_iaload (C : em_Cx p s m args c cc own nL D cl) (hka : ∀ k, k < 9 → em_ka dA aty s k) (hty : em_tyK aty) (hd : decode cc pc = .ok (.iaload, 1)) : em_Sp p l e R s m args below meth c Q D dA aty cl base nL s0 H00 w ls st pc (em_al pc 1 [0, 8] ls w st) := by
  intro pc' ls' st' h q _ _ kk
  obtain ⟨i, a, k, len, f, rest, rfl, hf, hk, hc, rfl, rfl, rfl, rfl⟩ := em_al_inv q
  intro lsM H locs cells slots h1 h2 h3 h4 h5
  have hk : k % 1000 = 0 ∨ k % 1000 = 8 := by simpa using hk
  obtain ⟨cell, g1, g2, g3, g4, g5, -⟩ := em_arr_of hka h2 hf (by omega)
  have ht : aty (k % 1000) = .int := by
    rcases hk with z | z
    · rw [z]; exact hty.1
    · rw [z]; exact hty.2.2.2.2.2.2.2.2
  exact W.iald C.1 C.2.1 g1 (ht ▸ g2) g3 (by rw [g4]; exact hc) (g5 _ (em_lt_of hc)) rfl rfl hd (kk lsM H locs cells slots h1 h2 h3 h4 h5)
theorem em_i_laload (C : em_Cx p s m args c cc own nL D cl) (hka : ∀ k, k < 9 → em_ka dA aty s k) (hty : em_tyK aty) (hd : decode cc pc = .ok (.laload, 1)) : em_Sp p l e R s m args below meth c Q D dA aty cl base nL s0 H00 w ls st pc (em_al pc 1 [3] ls w st) := by
  intro pc' ls' st' h q _ _ kk
  obtain ⟨i, a, k, len, f, rest, rfl, hf, hk, hc, rfl, rfl, rfl, rfl⟩ := em_al_inv q
  intro lsM H locs cells slots h1 h2 h3 h4 h5
  have hk : k % 1000 = 3 := by simpa using hk
  obtain ⟨cell, g1, g2, g3, g4, g5, -⟩ := em_arr_of hka h2 hf (by omega)
  have ht : aty (k % 1000) = .long := by rw [hk]; exact hty.2.2.2.1
  exact W.lald C.1 C.2.1 g1 (ht ▸ g2) g3 (by rw [g4]; exact hc) (g5 _ (em_lt_of hc)) rfl rfl hd (kk lsM H locs cells slots h1 h2 h3 h4 h5)
theorem em_i_baload (C : em_Cx p s m args c cc own nL D cl) (hka : ∀ k, k < 9 → em_ka dA aty s k) (hty : em_tyK aty) (hd : decode cc pc = .ok (.baload, 1)) : em_Sp p l e R s m args below meth c Q D dA aty cl base nL s0 H00 w ls st pc (em_al pc 1 [1, 2] ls w st) := by
  intro pc' ls' st' h q _ _ kk
  obtain ⟨i, a, k, len, f, rest, rfl, hf, hk, hc, rfl, rfl, rfl, rfl⟩ := em_al_inv q
  intro lsM H locs cells slots h1 h2 h3 h4 h5
  have hk : k % 1000 = 1 ∨ k % 1000 = 2 := by simpa using hk
  obtain ⟨cell, g1, g2, g3, g4, g5, -⟩ := em_arr_of hka h2 hf (by omega)
  rcases hk with z | z
  · rw [z, hty.2.1] at g2
    exact W.bald C.1 C.2.1 g1 g2 g3 (by rw [g4]; exact hc) (g5 _ (em_lt_of hc)) rfl rfl hd (kk lsM H locs cells slots h1 h2 h3 h4 h5)
  · rw [z, hty.2.2.1] at g2
    exact W.zald C.1 C.2.1 g1 g2 g3 (by rw [g4]; exact hc) (g5 _ (em_lt_of hc)) rfl rfl hd (kk lsM H locs cells slots h1 h2 h3 h4 h5)
theorem em_tyK_ref (hty : em_tyK aty) {k : Nat} (hk : k = 4 ∨ k = 5 ∨ k = 6 ∨ k = 7) : (aty k).isReference = true := by
  obtain ⟨_, _, _, _, ⟨C4, h4⟩, ⟨C5, h5⟩, ⟨C6, h6⟩, h7, _⟩ := hty
  rcases hk with rfl | rfl | rfl | rfl
  · rw [h4]; rfl
  · rw [h5]; rfl
  · rw [h6]; rfl
  · rw [h7]; rfl
theorem em_i_aaload (C : em_Cx p s m args c cc own nL D cl) (hka : ∀ k, k < 9 → em_ka dA aty s k) (hty : em_tyK aty) (hd : decode cc pc = .ok (.aaload, 1)) : em_Sp p l e R s m args below meth c Q D dA aty cl base nL s0 H00 w ls st pc (em_al pc 1 [4, 5, 6, 7] ls w st) := by
  intro pc' ls' st' h q _ _ kk
  obtain ⟨i, a, k, len, f, rest, rfl, hf, hk, hc, rfl, rfl, rfl, rfl⟩ := em_al_inv q
  intro lsM H locs cells slots h1 h2 h3 h4 h5
  have hk : k % 1000 = 4 ∨ k % 1000 = 5 ∨ k % 1000 = 6 ∨ k % 1000 = 7 := by simpa using hk
  obtain ⟨cell, g1, g2, g3, g4, g5, -⟩ := em_arr_of hka h2 hf (by omega)
  exact W.aald C.1 C.2.1 g1 g2 (em_tyK_ref hty hk) g3 (by rw [g4]; exact hc) (g5 _ (em_lt_of hc)) rfl rfl hd (kk lsM H locs cells slots h1 h2 h3 h4 h5)
theorem em_as_inv {ks : List Nat} {pc' : Nat} {ls' st' : List Value} {h : em_H} (q : em_as pc n ks ls w st = some (.inr (.inl (pc', ls', st', h)))) : ∃ (v v' : Value) (i : Int32) (a k len : Nat) (f : Nat → Value), st = v :: .int i :: .ref a :: st' ∧ w.2.2 a = some (.inr (k, len, f)) ∧ k < 1000 ∧ k ∈ ks ∧ ¬ (i < 0 ∨ len ≤ i.toNatClampNeg) ∧ em_nr k v = some v' ∧ pc' = pc + n ∧ ls' = ls ∧ h = .inr (a, .inr (k, len, updV f i.toNatClampNeg v')) := by
  unfold em_as at q
  split at q
  · rename_i v i a rest
    split at q
    · rename_i k len f hf
      split at q
      · rename_i hk
        simp only [Bool.and_eq_true, decide_eq_true_eq] at hk
        split at q
        · cases q
        · rename_i hc
          split at q
          · rename_i v' hv'
            cases q
            exact ⟨v, v', i, a, k, len, f, rfl, em_ar_some hf, hk.1, by simpa using hk.2, hc, hv', rfl, rfl, rfl⟩
          · cases q
      · cases q
    · cases q
  · cases q
/-- behind a store into an array -/
theorem em_stored {a k len j : Nat} {f : Nat → Value} {v : Value} {H H1 : Heap} (hw : em_wok D dA aty cl base H00 w H) (h : w.2.2 a = some (.inr (k, len, f))) (hk : k < 100) (hv : fits (aty k) v = true) (he : H1[a]? = some ((arrV (dA k) len f).setSlot j v)) (hz : H1.size = H.size) (ho : ∀ q, q ≠ a → H1[q]? = H[q]?) : em_wok D dA aty cl base H00 (em_app w (.inr (a, .inr (k, len, updV f j v)))) H1 ∧ base ≤ a := by
  obtain ⟨⟨⟨_, hfit⟩, -⟩, hb⟩ := hw.2.2.2 _ _ h
  have hb : base ≤ a := hb (by show k < 1000; omega)
  have hmod : k % 1000 = k := Nat.mod_eq_of_lt (by omega)
  rw [arrV_store] at he
  refine ⟨hw.set hb hz (em_arr_cok hk he (fun i hi => ?_)) ho, hb⟩
  unfold updV
  split
  · exact hv
  · have := hfit i hi
    dsimp only at this
    rw [hmod] at this
    exact this
theorem em_locs {locs : List Loc} {a j : Nat} (h : ∀ z ∈ locs, base ≤ z.base) (ha : base ≤ a) : ∀ z ∈ locs ++ [(⟨a, j⟩ : Loc)], base ≤ z.base := by
  intro z hz
  rcases List.mem_append.mp hz with h1 | h1
  · exact h z h1
  · rw [List.mem_singleton.mp h1]; exact ha
theorem em_i_iastore (C : em_Cx p s m args c cc own nL D cl) (hka : ∀ k, k < 9 → em_ka dA aty s k) (hty : em_tyK aty) (hd : decode cc pc = .ok (.iastore, 1)) : em_Sp p l e R s m args below meth c Q D dA aty cl base nL s0 H00 w ls st pc (em_as pc 1 [0] ls w st) := by
  intro pc' ls' st' h q _ _ kk
  obtain ⟨v, v', i, a, k, len, f, rfl, hf, hk1, hk, hc, hv, rfl, rfl, rfl⟩ := em_as_inv q
  have hk : k = 0 := by simpa using hk
  subst hk
  match v, hv with
  | .int x, hv =>
    cases hv
    intro lsM H locs cells slots h1 h2 h3 h4 h5
    obtain ⟨cell, g1, g2, g3, g4, g5, g6, g7, g8, g9⟩ := em_arr_of hka h2 hf (by decide)
    have g8 := g8 (by decide)
    subst g8
    refine W.iast C.1 C.2.1 g1 (hty.1 ▸ g2) g3 (by rw [g4]; exact hc) rfl rfl hd fun H1 e1 e2 e3 => ?_
    obtain ⟨hw, hb⟩ := em_stored h2 hf (by decide) (by rw [hty.1]; rfl) e1 e2 e3
    exact kk lsM H1 _ cells slots h1 hw (em_locs h3 hb) h4 h5
theorem em_i_lastore (C : em_Cx p s m args c cc own nL D cl) (hka : ∀ k, k < 9 → em_ka dA aty s k) (hty : em_tyK aty) (hd : decode cc pc = .ok (.lastore, 1)) : em_Sp p l e R s m args below meth c Q D dA aty cl base nL s0 H00 w ls st pc (em_as pc 1 [3] ls w st) := by
  intro pc' ls' st' h q _ _ kk
  obtain ⟨v, v', i, a, k, len, f, rfl, hf, hk1, hk, hc, hv, rfl, rfl, rfl⟩ := em_as_inv q
  have hk : k = 3 := by simpa using hk
  subst hk
  match v, hv with
  | .long x, hv =>
    cases hv
    intro lsM H locs cells slots h1 h2 h3 h4 h5
    obtain ⟨cell, g1, g2, g3, g4, g5, g6, g7, g8, g9⟩ := em_arr_of hka h2 hf (by decide)
    have g8 := g8 (by decide)
    subst g8
    refine W.last C.1 C.2.1 g1 (hty.2.2.2.1 ▸ g2) g3 (by rw [g4]; exact hc) rfl rfl hd fun H1 e1 e2 e3 => ?_
    obtain ⟨hw, hb⟩ := em_stored h2 hf (by decide) (by rw [hty.2.2.2.1]; rfl) e1 e2 e3
    exact kk lsM H1 _ cells slots h1 hw (em_locs h3 hb) h4 h5
theorem em_fit_z (x : Int32) : fits .boolean (.int (x &&& 1)) = true := by
  obtain ⟨j, hj, e⟩ := pk_andE x (m := 1) 1 (by decide)
  rw [e]
  match j, hj with
  | 0, _ => decide
  | 1, _ => decide
theorem em_i_bastore (C : em_Cx p s m args c cc own nL D cl) (hka : ∀ k, k < 9 → em_ka dA aty s k) (hty : em_tyK aty) (hd : decode cc pc = .ok (.bastore, 1)) : em_Sp p l e R s m args below meth c Q D dA aty cl base nL s0 H00 w ls st pc (em_as pc 1 [1, 2] ls w st) := by
  intro pc' ls' st' h q _ _ kk
  obtain ⟨v, v', i, a, k, len, f, rfl, hf, hk1, hk, hc, hv, rfl, rfl, rfl⟩ := em_as_inv q
  have hk : k = 1 ∨ k = 2 := by simpa using hk
  rcases hk with rfl | rfl
  · match v, hv with
    | .int x, hv =>
      cases hv
      intro lsM H locs cells slots h1 h2 h3 h4 h5
      obtain ⟨cell, g1, g2, g3, g4, g5, g6, g7, g8, g9⟩ := em_arr_of hka h2 hf (by decide)
      have g8 := g8 (by decide)
      subst g8
      refine W.bast C.1 C.2.1 g1 (hty.2.1 ▸ g2) g3 (by rw [g4]; exact hc) rfl rfl hd fun H1 e1 e2 e3 => ?_
      obtain ⟨hw, hb⟩ := em_stored h2 hf (by decide) (by rw [hty.2.1]; exact pk_fb x) e1 e2 e3
      exact kk lsM H1 _ cells slots h1 hw (em_locs h3 hb) h4 h5
  · match v, hv with
    | .int x, hv =>
      cases hv
      intro lsM H locs cells slots h1 h2 h3 h4 h5
      obtain ⟨cell, g1, g2, g3, g4, g5, g6, g7, g8, g9⟩ := em_arr_of hka h2 hf (by decide)
      have g8 := g8 (by decide)
      subst g8
      refine W.zast C.1 C.2.1 g1 (hty.2.2.1 ▸ g2) g3 (by rw [g4]; exact hc) rfl rfl hd fun H1 e1 e2 e3 => ?_
      obtain ⟨hw, hb⟩ := em_stored h2 hf (by decide) (by rw [hty.2.2.1]; exact em_fit_z x) e1 e2 e3
      exact kk lsM H1 _ cells slots h1 hw (em_locs h3 hb) h4 h5
end EMA
