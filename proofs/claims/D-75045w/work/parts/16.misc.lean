/-! SOUNDNESS: Object's constructor, copies, texts, class objects, grids -/
section EMM
variable {p : Program} {l : Launch} {e : Env} {R : Room} {s : State} {m : MethodId} {args : Array Value} {below : List Frame} {meth : Method} {c : Code} {Q : State → Prop}
variable {D : va_G} {dA : Nat → ClassId} {aty : Nat → FieldType} {cl : List vw_C} {base nL s0 : Nat} {H00 : Heap} {cc : ByteArray} {own : String} {w : em_W} {ls st : List Value} {pc n : Nat} {nw : List Cond} {g : em_G}
theorem em_i_objInit (C : em_Cx p s m args c cc own nL D cl) {dd index : Nat} (hd : decode cc pc = .ok (.invokespecial index, 3)) (h1 : Cond.methodLink own index Lib.objectInit ∈ lw_all) (h2 : Cond.instanceMethod Lib.objectInit ∈ lw_all) (h3 : Cond.code Lib.objectInit ⟨#[0xb1]⟩ 1 none ∈ lw_all) (hR1 : 1 ≤ R.frames) (hR2 : 40 ≤ R.locals) : em_Sp p l e R s m args below meth c Q D dA aty cl base nL s0 H00 w ls st pc (em_iv g dd pc 3 ls st w [3]) := by
  intro pc' ls' st' h q _ _ kk
  simp only [em_iv] at q
  split at q
  · rename_i a rest
    split at q
    · rename_i h8
      obtain ⟨rfl, rfl, rfl, rfl⟩ := em_nx_inv q
      have h8 : (st'.map fun v => v.category).sum ≤ 8 := of_decide_eq_true h8
      intro lsM H locs cells slots g1 g2 g3 g4 g5
      have k2 := kk lsM H locs cells slots g1 g2 g3 g4 g5
      exact W.objInit C.1 C.2.1 C.2.2.1 (C.2.2.2.1 _ h1) (C.2.2.2.1 _ h2) (C.2.2.2.1 _ h3) rfl (by rw [C.2.2.2.2.1]; exact g1.2.1.1) rfl hd hR1 (by show 2 * 0 + _ + 12 ≤ _; omega) k2
    · cases q
  · cases q
theorem em_nn {z : Int32} (hz : ¬ z < 0) : z.toInt = (z.toNatClampNeg : Int) := by
  have hz0 : (0 : Int) ≤ z.toInt := by
    have := Int32.not_lt.mp hz
    simpa using Int32.le_iff_toInt_le.mp this
  show z.toInt = ((z.toInt.toNat : Nat) : Int)
  omega
theorem em_cp_inv {tk : List Nat} {pc' : Nat} {ls' st' : List Value} {h : em_H} (q : em_cp pc n tk ls w st = some (.inr (.inl (pc', ls', st', h)))) : ∃ (x dp sp : Int32) (d a k la k' ld : Nat) (f f' : Nat → Value), st = .int x :: .int dp :: .ref d :: .int sp :: .ref a :: st' ∧ w.2.2 a = some (.inr (k, la, f)) ∧ w.2.2 d = some (.inr (k', ld, f')) ∧ k' < 1000 ∧ k % 1000 = k' ∧ ¬ (x < 0 ∨ sp < 0 ∨ dp < 0 ∨ la < sp.toNatClampNeg + x.toNatClampNeg ∨ ld < dp.toNatClampNeg + x.toNatClampNeg) ∧
    (k' < 2 ∨ (k' = 4 ∧ ∀ i, i < x.toNatClampNeg → em_aok w tk k' (f (sp.toNatClampNeg + i)) = true)) ∧ pc' = pc + n ∧ ls' = ls ∧ h = .inr (d, .inr (k', ld, va_cpy f f' sp.toNatClampNeg dp.toNatClampNeg x.toNatClampNeg)) := by
  unfold em_cp at q
  split at q
  · rename_i x dp d sp a rest
    split at q
    · rename_i k la f k' ld f' hf hf'
      split at q
      · rename_i hk
        simp only [Bool.and_eq_true, decide_eq_true_eq] at hk
        split at q
        · cases q
        · rename_i hc
          split at q
          · rename_i hb
            simp only [Bool.or_eq_true, Bool.and_eq_true, decide_eq_true_eq] at hb
            cases q
            refine ⟨x, dp, sp, d, a, k, la, k', ld, f, f', rfl, em_ar_some hf, em_ar_some hf', hk.1, hk.2, hc, ?_, rfl, rfl, rfl⟩
            rcases hb with hb | ⟨hb1, hb2⟩
            · exact Or.inl hb
            · exact Or.inr ⟨hb1, fun i hi => List.all_eq_true.mp hb2 i (List.mem_range.mpr hi)⟩
          · cases q
      · cases q
    · cases q
  · cases q
theorem em_i_copy (C : em_Cx p s m args c cc own nL D cl) (hka : ∀ k, k < 9 → em_ka dA aty s k) (hty : em_tyK aty) {index : Nat} {tk : List Nat} (hd : decode cc pc = .ok (.invokestatic index, 3)) (hst : ∀ kq, 4000 + kq ∈ tk → em_sta s D dA 4 kq) (t1 : Cond.methodLink own index arraycopyName ∈ lw_all) (t2 : (Cond.native arraycopyName).before args s = true) (t3 : Cond.static arraycopyName ∈ lw_all) (t4 : Cond.initialized "java/lang/System" ∈ lw_all) (hR1 : 1 ≤ R.frames) (hR2 : 40 ≤ R.locals) (h8 : ∀ st' : List Value, ∀ x dp sp d a, st = .int x :: .int dp :: .ref d :: .int sp :: .ref a :: st' → (st'.map fun v => v.category).sum ≤ 8) : em_Sp p l e R s m args below meth c Q D dA aty cl base nL s0 H00 w ls st pc (em_cp pc 3 tk ls w st) := by
  intro pc' ls' st' h q _ _ kk
  obtain ⟨x, dp, sp, d, a, k, la, k', ld, f, f', rfl, hf, hf', hk1, hk2, hc, hel, rfl, rfl, rfl⟩ := em_cp_inv q
  have h8 := h8 st' x dp sp d a rfl
  have hx : ¬ x < 0 := fun z => hc (Or.inl z)
  have hs : ¬ sp < 0 := fun z => hc (Or.inr (Or.inl z))
  have hdp : ¬ dp < 0 := fun z => hc (Or.inr (Or.inr (Or.inl z)))
  have hl1 : sp.toNatClampNeg + x.toNatClampNeg ≤ la := Nat.le_of_not_lt fun z => hc (Or.inr (Or.inr (Or.inr (Or.inl z))))
  have hl2 : dp.toNatClampNeg + x.toNatClampNeg ≤ ld := Nat.le_of_not_lt fun z => hc (Or.inr (Or.inr (Or.inr (Or.inr z))))
  have hk9 : k % 1000 < 9 := by rcases hel with z | ⟨z, -⟩ <;> omega
  have hmod' : k' % 1000 = k' := Nat.mod_eq_of_lt hk1
  intro lsM H locs cells slots g1 g2 g3 g4 g5
  obtain ⟨cs, a1, a2, a3, a4, a5, a6, a7, a8, a9⟩ := em_arr_of hka g2 hf hk9
  obtain ⟨cd, d1, d2, d3, d4, d5, d6, d7, d8, d9⟩ := em_arr_of hka g2 hf' (by rw [hmod', ← hk2]; exact hk9)
  have d8 := d8 hk1
  rw [hmod'] at d2 d7 d8 d9
  rw [hk2] at a2 a7 a9
  have hbd : base ≤ d := (g2.2.2.2 _ _ hf').2 hk1
  obtain ⟨-, k0, hk0, cm0, hkk0⟩ := a2
  obtain ⟨-, kd1, hk1', cm1, hkk1⟩ := d2
  intro T hT X
  obtain ⟨vm', X', step⟩ := X.arraycopy C.1 C.2.2.1 (C.2.2.2.1 _ t1) t2 (C.2.2.2.1 _ t3) (C.2.2.2.1 _ t4) (src := a) (dst := d) (cs := cs) (cd := cd) (srcPos := sp) (destPos := dp) (n := x) (by rw [hT]; exact a1) (by rw [hT]; exact d1)
    a6 d6 a3 d3 hk0 hk1' hkk0 hkk1 (by cases refKind (aty k') <;> simp) hs hdp hx
    (by rw [em_nn hs, em_nn hx, a4]; omega) (by rw [em_nn hdp, em_nn hx, d4]; omega)
    (fun vm₁ hal i hi => by
      have e9 : cs.slots.getD (sp.toNatClampNeg + i) .null = f (sp.toNatClampNeg + i) := by
        rw [Array.getD_eq_getD_getElem?, a5 _ (by omega)]
        rfl
      rw [e9]
      refine ⟨a9 _ (by omega), ?_⟩
      have hfit := a9 (sp.toNatClampNeg + i) (by omega)
      rcases hel with z | ⟨z, hel⟩
      · have hz : k' = 0 ∨ k' = 1 := by omega
        have hr : (aty k') = .int ∨ (aty k') = .byte := by
          rcases hz with rfl | rfl
          · exact Or.inl hty.1
          · exact Or.inr hty.2.1
        rcases hr with hr | hr <;> rw [hr] at hfit <;> cases hv : f (sp.toNatClampNeg + i) <;> rw [hv] at hfit <;> first | exact trivial | cases hfit
      · have h9 := hel i hi
        subst z
        cases hv : f (sp.toNatClampNeg + i) with
        | ref y =>
          rw [hv] at h9
          obtain ⟨kq, hkq, hm⟩ := em_aok_ref h9
          obtain ⟨kA, comp, t, kcomp, kv, s1, s2, s3, s4, s5, s6⟩ := hst kq hm
          obtain ⟨cv, c1, c2, c3⟩ := em_kd_cell C.2.2.2.2.2.2.1 g2 hkq
          rw [d7] at hk1'
          cases hk1'.symm.trans s1
          cases hkk1.symm.trans s2
          obtain ⟨kE, hkE, -⟩ := hal.2.2 _ _ s4
          obtain ⟨kC, hkC, -⟩ := hal.2.2 _ _ s5
          refine ⟨cv, (show T.heap[y]? = some cv by rw [hT]; exact c1), c2, ⟨kC, by rw [c3]; exact hkC⟩, ⟨kE, hkE⟩, ?_⟩
          show vm₁.assignable _ _ = true
          rw [hal.assignable, c3]
          exact s6
        | _ => exact trivial)
    (g := F0 m pc lsM (.int x :: .int dp :: .ref d :: .int sp :: .ref a :: st')) rfl (by rw [C.2.2.2.2.1]; exact g1.2.1.1) (rest := st') rfl (by rw [C.2.1]; exact hd) hR1 (by show 2 * 0 + _ + _ ≤ _; have hw : nativeFrameWords "java/lang/System" "arraycopy" 5 ≤ 20 := (by decide); omega)
  have e1 : copied cs cd sp dp x = arrV (dA k') ld (va_cpy f f' sp.toNatClampNeg dp.toNatClampNeg x.toNatClampNeg) := by
    rw [d8]
    exact va_copiedX (fun z => z) cs (dA k') f f' a5 hl1
  rw [e1] at X' step
  have hl : d < H.size := (Array.getElem?_eq_some_iff.mp d1).1
  have hk100 : k' < 100 := by omega
  have hheap : ((T.setVm vm').setCell d (arrV (dA k') ld (va_cpy f f' sp.toNatClampNeg dp.toNatClampNeg x.toNatClampNeg))).heap = H.setIfInBounds d (arrV (dA k') ld (va_cpy f f' sp.toNatClampNeg dp.toNatClampNeg x.toNatClampNeg)) := by rw [← hT]; rfl
  obtain ⟨t, b1, b2⟩ := kk lsM _ _ cells slots g1 (g2.set (c := .inr (k', ld, va_cpy f f' sp.toNatClampNeg dp.toNatClampNeg x.toNatClampNeg)) hbd (by simp) (em_arr_cok hk100 (by simp [Array.getElem?_setIfInBounds, hl]) (fun j hj => by
      unfold va_cpy
      split
      · exact a9 _ (by omega)
      · exact d9 j hj)) (fun q hq => by simp [Array.getElem?_setIfInBounds, Ne.symm hq])) (fun z hz => by
      rcases List.mem_append.mp hz with h | h
      · exact g3 z h
      · obtain ⟨y, -, hy⟩ := List.mem_map.mp h
        rw [← hy]
        exact hbd) g4 g5 _ hheap X'
  exact ⟨t, step t b1, b2⟩
end EMM
