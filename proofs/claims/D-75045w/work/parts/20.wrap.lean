/-! every instruction's soundness, ready for the tables -/
section EMO
variable {P : em_M} {T : em_T} {KK : State → Prop} {g : em_G} {D : va_G} {dA : Nat → ClassId} {aty : Nat → FieldType} {cl : List vw_C} {base : Nat} {H00 : Heap}
variable {mm pc : Nat} {cc : ByteArray} {own : String}
/-- an instruction is sound -/
def em_IOK (P : em_M) (T : em_T) (KK : State → Prop) (g : em_G) (D : va_G) (dA : Nat → ClassId) (aty : Nat → FieldType) (cl : List vw_C) (base : Nat) (H00 : Heap) (mm : Nat) (x : Nat × em_I) : Prop :=
  decode (T mm).2.1 x.1 = .ok (x.2.1, x.2.2.1) ∧ em_r1 x.2.1 x.2.2.1 = true ∧ em_SOK P T KK g D dA aty cl base H00 mm x ∧ em_COK P T KK g D dA aty cl base H00 mm x
/-- steps that are no calls -/
def em_nc (i : Instr) : Bool := match i with
  | .invokestatic _ => false
  | .invokespecial _ => false
  | .invokevirtual _ => false
  | .invokeinterface _ _ => false
  | .invokedynamic _ => false
  | _ => true
def em_n9 (x : Option em_A) : Prop := ∀ r, x ≠ some (.inr (.inr r))
theorem em_n_nx {a : Nat} {b c : List Value} : em_n9 (em_nx a b c) := fun r h => by unfold em_nx at h; cases h
theorem em_n_jp {pc : Nat} {off : Int} {b c : List Value} : em_n9 (em_jp pc off b c) := fun r h => by
  unfold em_jp at h
  split at h
  · exact em_n_nx r h
  · cases h
set_option maxHeartbeats 4000000 in
theorem em_st_nc {d n : Nat} {rt : Option FieldType} {ls st : List Value} {w : em_W} {ks : List Nat} {i : Instr} (hi : em_nc i = true) : em_n9 (em_st g d rt pc n [] ls st w ks i) := by
  intro r h
  cases i <;> simp only [em_st] at h <;> first
    | (cases h; done)
    | exact absurd h (em_n_nx _)
    | exact absurd h (em_n_jp _)
    | (cases hi; done)
    | (revert h; simp only [em_ld, em_sto, em_stl, em_inc, em_ii, em_dv, em_ll, em_dl, em_ls, em_i1, em_l1, em_lc, em_b2, em_b1, em_ba, em_bn, em_ts, em_lk, em_gf, em_pf, em_gs, em_nw, em_na, em_al, em_as, em_aa, em_ln, em_cc, em_io, em_ma, em_lt, em_l2, em_d1, em_po, em_dx, em_d2, em_rt, em_ar1, em_lr, em_vr, em_at]; (repeat' split) <;> first | (intro h; cases h; done) | (exact em_n_nx _) | (exact em_n_jp _) | (intro h; simp at h))
theorem em_ok_of {i : Instr} {n : Nat} {ks : List Nat} (hc : (T mm).2.1 = cc) (hd : decode cc pc = .ok (i, n)) (hr : em_r1 i n = true) (hi : em_nc i = true) (hs : em_SOK P T KK g D dA aty cl base H00 mm (pc, (i, n, ks))) : em_IOK P T KK g D dA aty cl base H00 mm (pc, (i, n, ks)) := by
  refine ⟨by rw [hc]; exact hd, hr, hs, ?_⟩
  intro p l e R s m args below meth c d ls st w m' n' as st' CK h
  exact absurd h (em_st_nc hi _)
/-- an end of the method: no step -/
theorem em_ok_end {i : Instr} {ks : List Nat} (hc : (T mm).2.1 = cc) (hd : decode cc pc = .ok (i, 1)) (hi : i = .ireturn ∨ i = .areturn ∨ i = .lreturn ∨ i = .return_ ∨ i = .athrow) : em_IOK P T KK g D dA aty cl base H00 mm (pc, (i, 1, ks)) := by
  refine em_ok_of hc hd (by rcases hi with h | h | h | h | h <;> subst h <;> rfl) (by rcases hi with h | h | h | h | h <;> subst h <;> rfl) ?_
  intro p l e R s m args below meth c Q s0 d ls st w CK pc' ls' st' h q
  exfalso
  dsimp only at q
  rcases hi with h9 | h9 | h9 | h9 | h9 <;> subst h9 <;> simp only [em_st] at q <;> revert q
  · unfold em_rt; (repeat' split) <;> (intro h; cases h)
  · unfold em_ar1; (repeat' split) <;> (intro h; cases h)
  · unfold em_lr; (repeat' split) <;> (intro h; cases h)
  · unfold em_vr; (repeat' split) <;> (intro h; cases h)
  · unfold em_at; (repeat' split) <;> (intro h; cases h)
/-- an instruction that the evaluator doesn't take -/
theorem em_ok_no {i : Instr} {n : Nat} {ks : List Nat} (hc : (T mm).2.1 = cc) (hd : decode cc pc = .ok (i, n)) (hr : em_r1 i n = true) (hn : ∀ (d : Nat) (rt : Option FieldType) (ls st : List Value) (w : em_W), em_st g d rt pc n [] ls st w ks i = none) : em_IOK P T KK g D dA aty cl base H00 mm (pc, (i, n, ks)) := by
  refine ⟨by rw [hc]; exact hd, hr, ?_, ?_⟩
  · intro p l e R s m args below meth c Q s0 d ls st w CK pc' ls' st' h q
    dsimp only at q
    rw [hn] at q
    cases q
  · intro p l e R s m args below meth c d ls st w m' n' as st' CK h
    dsimp only at h
    rw [hn] at h
    cases h
theorem em_o_iload_n {k : Fin 4} (hc : (T mm).2.1 = cc) (hd : decode cc pc = .ok (.iload_n k, 1)) : em_IOK P T KK g D dA aty cl base H00 mm (pc, (.iload_n k, 1, [])) := by
  subst hc
  exact em_ok_of rfl hd rfl rfl fun p l e R s m args below meth c Q s0 d ls st w CK => em_i_iload_n CK.1 hd
theorem em_o_iload {k : Nat} (hc : (T mm).2.1 = cc) (hd : decode cc pc = .ok (.iload k, 2)) : em_IOK P T KK g D dA aty cl base H00 mm (pc, (.iload k, 2, [])) := by
  subst hc
  exact em_ok_of rfl hd rfl rfl fun p l e R s m args below meth c Q s0 d ls st w CK => em_i_iload CK.1 hd
theorem em_o_lload_n {k : Fin 4} (hc : (T mm).2.1 = cc) (hd : decode cc pc = .ok (.lload_n k, 1)) : em_IOK P T KK g D dA aty cl base H00 mm (pc, (.lload_n k, 1, [])) := by
  subst hc
  exact em_ok_of rfl hd rfl rfl fun p l e R s m args below meth c Q s0 d ls st w CK => em_i_lload_n CK.1 hd
theorem em_o_lload {k : Nat} (hc : (T mm).2.1 = cc) (hd : decode cc pc = .ok (.lload k, 2)) : em_IOK P T KK g D dA aty cl base H00 mm (pc, (.lload k, 2, [])) := by
  subst hc
  exact em_ok_of rfl hd rfl rfl fun p l e R s m args below meth c Q s0 d ls st w CK => em_i_lload CK.1 hd
theorem em_o_aload_n {k : Fin 4} (hc : (T mm).2.1 = cc) (hd : decode cc pc = .ok (.aload_n k, 1)) : em_IOK P T KK g D dA aty cl base H00 mm (pc, (.aload_n k, 1, [])) := by
  subst hc
  exact em_ok_of rfl hd rfl rfl fun p l e R s m args below meth c Q s0 d ls st w CK => em_i_aload_n CK.1 hd
theorem em_o_aload {k : Nat} (hc : (T mm).2.1 = cc) (hd : decode cc pc = .ok (.aload k, 2)) : em_IOK P T KK g D dA aty cl base H00 mm (pc, (.aload k, 2, [])) := by
  subst hc
  exact em_ok_of rfl hd rfl rfl fun p l e R s m args below meth c Q s0 d ls st w CK => em_i_aload CK.1 hd
theorem em_o_istore_n {k : Fin 4} (hc : (T mm).2.1 = cc) (hd : decode cc pc = .ok (.istore_n k, 1)) : em_IOK P T KK g D dA aty cl base H00 mm (pc, (.istore_n k, 1, [])) := by
  subst hc
  exact em_ok_of rfl hd rfl rfl fun p l e R s m args below meth c Q s0 d ls st w CK => em_i_istore_n CK.1 hd
theorem em_o_istore {k : Nat} (hc : (T mm).2.1 = cc) (hd : decode cc pc = .ok (.istore k, 2)) : em_IOK P T KK g D dA aty cl base H00 mm (pc, (.istore k, 2, [])) := by
  subst hc
  exact em_ok_of rfl hd rfl rfl fun p l e R s m args below meth c Q s0 d ls st w CK => em_i_istore CK.1 hd
theorem em_o_astore_n {k : Fin 4} (hc : (T mm).2.1 = cc) (hd : decode cc pc = .ok (.astore_n k, 1)) : em_IOK P T KK g D dA aty cl base H00 mm (pc, (.astore_n k, 1, [])) := by
  subst hc
  exact em_ok_of rfl hd rfl rfl fun p l e R s m args below meth c Q s0 d ls st w CK => em_i_astore_n CK.1 hd
theorem em_o_astore {k : Nat} (hc : (T mm).2.1 = cc) (hd : decode cc pc = .ok (.astore k, 2)) : em_IOK P T KK g D dA aty cl base H00 mm (pc, (.astore k, 2, [])) := by
  subst hc
  exact em_ok_of rfl hd rfl rfl fun p l e R s m args below meth c Q s0 d ls st w CK => em_i_astore CK.1 hd
theorem em_o_lstore_n {k : Fin 4} (hc : (T mm).2.1 = cc) (hd : decode cc pc = .ok (.lstore_n k, 1)) : em_IOK P T KK g D dA aty cl base H00 mm (pc, (.lstore_n k, 1, [])) := by
  subst hc
  exact em_ok_of rfl hd rfl rfl fun p l e R s m args below meth c Q s0 d ls st w CK => em_i_lstore_n CK.1 hd
theorem em_o_lstore {k : Nat} (hc : (T mm).2.1 = cc) (hd : decode cc pc = .ok (.lstore k, 2)) : em_IOK P T KK g D dA aty cl base H00 mm (pc, (.lstore k, 2, [])) := by
  subst hc
  exact em_ok_of rfl hd rfl rfl fun p l e R s m args below meth c Q s0 d ls st w CK => em_i_lstore CK.1 hd
theorem em_o_iinc {k : Nat} {x : Int} (hc : (T mm).2.1 = cc) (hd : decode cc pc = .ok (.iinc k x, 3)) : em_IOK P T KK g D dA aty cl base H00 mm (pc, (.iinc k x, 3, [])) := by
  subst hc
  exact em_ok_of rfl hd rfl rfl fun p l e R s m args below meth c Q s0 d ls st w CK => em_i_iinc CK.1 hd
theorem em_o_iconst {x : Int} (hc : (T mm).2.1 = cc) (hd : decode cc pc = .ok (.iconst x, 1)) : em_IOK P T KK g D dA aty cl base H00 mm (pc, (.iconst x, 1, [])) := by
  subst hc
  exact em_ok_of rfl hd rfl rfl fun p l e R s m args below meth c Q s0 d ls st w CK => em_i_iconst CK.1 hd
theorem em_o_bipush {x : Int} (hc : (T mm).2.1 = cc) (hd : decode cc pc = .ok (.bipush x, 2)) : em_IOK P T KK g D dA aty cl base H00 mm (pc, (.bipush x, 2, [])) := by
  subst hc
  exact em_ok_of rfl hd rfl rfl fun p l e R s m args below meth c Q s0 d ls st w CK => em_i_bipush CK.1 hd
theorem em_o_sipush {x : Int} (hc : (T mm).2.1 = cc) (hd : decode cc pc = .ok (.sipush x, 3)) : em_IOK P T KK g D dA aty cl base H00 mm (pc, (.sipush x, 3, [])) := by
  subst hc
  exact em_ok_of rfl hd rfl rfl fun p l e R s m args below meth c Q s0 d ls st w CK => em_i_sipush CK.1 hd
theorem em_o_lconst {x : Fin 2} (hc : (T mm).2.1 = cc) (hd : decode cc pc = .ok (.lconst x, 1)) : em_IOK P T KK g D dA aty cl base H00 mm (pc, (.lconst x, 1, [])) := by
  subst hc
  exact em_ok_of rfl hd rfl rfl fun p l e R s m args below meth c Q s0 d ls st w CK => em_i_lconst CK.1 hd
theorem em_o_null (hc : (T mm).2.1 = cc) (hd : decode cc pc = .ok (.aconst_null, 1)) : em_IOK P T KK g D dA aty cl base H00 mm (pc, (.aconst_null, 1, [])) := by
  subst hc
  exact em_ok_of rfl hd rfl rfl fun p l e R s m args below meth c Q s0 d ls st w CK => em_i_null CK.1 hd
theorem em_o_iadd (hc : (T mm).2.1 = cc) (hd : decode cc pc = .ok (.iadd, 1)) : em_IOK P T KK g D dA aty cl base H00 mm (pc, (.iadd, 1, [])) := by
  subst hc
  exact em_ok_of rfl hd rfl rfl fun p l e R s m args below meth c Q s0 d ls st w CK => em_i_iadd CK.1 hd
theorem em_o_isub (hc : (T mm).2.1 = cc) (hd : decode cc pc = .ok (.isub, 1)) : em_IOK P T KK g D dA aty cl base H00 mm (pc, (.isub, 1, [])) := by
  subst hc
  exact em_ok_of rfl hd rfl rfl fun p l e R s m args below meth c Q s0 d ls st w CK => em_i_isub CK.1 hd
theorem em_o_imul (hc : (T mm).2.1 = cc) (hd : decode cc pc = .ok (.imul, 1)) : em_IOK P T KK g D dA aty cl base H00 mm (pc, (.imul, 1, [])) := by
  subst hc
  exact em_ok_of rfl hd rfl rfl fun p l e R s m args below meth c Q s0 d ls st w CK => em_i_imul CK.1 hd
theorem em_o_iand (hc : (T mm).2.1 = cc) (hd : decode cc pc = .ok (.iand, 1)) : em_IOK P T KK g D dA aty cl base H00 mm (pc, (.iand, 1, [])) := by
  subst hc
  exact em_ok_of rfl hd rfl rfl fun p l e R s m args below meth c Q s0 d ls st w CK => em_i_iand CK.1 hd
theorem em_o_ior (hc : (T mm).2.1 = cc) (hd : decode cc pc = .ok (.ior, 1)) : em_IOK P T KK g D dA aty cl base H00 mm (pc, (.ior, 1, [])) := by
  subst hc
  exact em_ok_of rfl hd rfl rfl fun p l e R s m args below meth c Q s0 d ls st w CK => em_i_ior CK.1 hd
theorem em_o_ixor (hc : (T mm).2.1 = cc) (hd : decode cc pc = .ok (.ixor, 1)) : em_IOK P T KK g D dA aty cl base H00 mm (pc, (.ixor, 1, [])) := by
  subst hc
  exact em_ok_of rfl hd rfl rfl fun p l e R s m args below meth c Q s0 d ls st w CK => em_i_ixor CK.1 hd
theorem em_o_ishl (hc : (T mm).2.1 = cc) (hd : decode cc pc = .ok (.ishl, 1)) : em_IOK P T KK g D dA aty cl base H00 mm (pc, (.ishl, 1, [])) := by
  subst hc
  exact em_ok_of rfl hd rfl rfl fun p l e R s m args below meth c Q s0 d ls st w CK => em_i_ishl CK.1 hd
theorem em_o_ishr (hc : (T mm).2.1 = cc) (hd : decode cc pc = .ok (.ishr, 1)) : em_IOK P T KK g D dA aty cl base H00 mm (pc, (.ishr, 1, [])) := by
  subst hc
  exact em_ok_of rfl hd rfl rfl fun p l e R s m args below meth c Q s0 d ls st w CK => em_i_ishr CK.1 hd
theorem em_o_iushr (hc : (T mm).2.1 = cc) (hd : decode cc pc = .ok (.iushr, 1)) : em_IOK P T KK g D dA aty cl base H00 mm (pc, (.iushr, 1, [])) := by
  subst hc
  exact em_ok_of rfl hd rfl rfl fun p l e R s m args below meth c Q s0 d ls st w CK => em_i_iushr CK.1 hd
theorem em_o_idiv (hc : (T mm).2.1 = cc) (hd : decode cc pc = .ok (.idiv, 1)) : em_IOK P T KK g D dA aty cl base H00 mm (pc, (.idiv, 1, [])) := by
  subst hc
  exact em_ok_of rfl hd rfl rfl fun p l e R s m args below meth c Q s0 d ls st w CK => em_i_idiv CK.1 hd
theorem em_o_irem (hc : (T mm).2.1 = cc) (hd : decode cc pc = .ok (.irem, 1)) : em_IOK P T KK g D dA aty cl base H00 mm (pc, (.irem, 1, [])) := by
  subst hc
  exact em_ok_of rfl hd rfl rfl fun p l e R s m args below meth c Q s0 d ls st w CK => em_i_irem CK.1 hd
theorem em_o_ladd (hc : (T mm).2.1 = cc) (hd : decode cc pc = .ok (.ladd, 1)) : em_IOK P T KK g D dA aty cl base H00 mm (pc, (.ladd, 1, [])) := by
  subst hc
  exact em_ok_of rfl hd rfl rfl fun p l e R s m args below meth c Q s0 d ls st w CK => em_i_ladd CK.1 hd
theorem em_o_lsub (hc : (T mm).2.1 = cc) (hd : decode cc pc = .ok (.lsub, 1)) : em_IOK P T KK g D dA aty cl base H00 mm (pc, (.lsub, 1, [])) := by
  subst hc
  exact em_ok_of rfl hd rfl rfl fun p l e R s m args below meth c Q s0 d ls st w CK => em_i_lsub CK.1 hd
theorem em_o_lmul (hc : (T mm).2.1 = cc) (hd : decode cc pc = .ok (.lmul, 1)) : em_IOK P T KK g D dA aty cl base H00 mm (pc, (.lmul, 1, [])) := by
  subst hc
  exact em_ok_of rfl hd rfl rfl fun p l e R s m args below meth c Q s0 d ls st w CK => em_i_lmul CK.1 hd
theorem em_o_ldiv (hc : (T mm).2.1 = cc) (hd : decode cc pc = .ok (.ldiv, 1)) : em_IOK P T KK g D dA aty cl base H00 mm (pc, (.ldiv, 1, [])) := by
  subst hc
  exact em_ok_of rfl hd rfl rfl fun p l e R s m args below meth c Q s0 d ls st w CK => em_i_ldiv CK.1 hd
theorem em_o_ineg (hc : (T mm).2.1 = cc) (hd : decode cc pc = .ok (.ineg, 1)) : em_IOK P T KK g D dA aty cl base H00 mm (pc, (.ineg, 1, [])) := by
  subst hc
  exact em_ok_of rfl hd rfl rfl fun p l e R s m args below meth c Q s0 d ls st w CK => em_i_ineg CK.1 hd
theorem em_o_i2l (hc : (T mm).2.1 = cc) (hd : decode cc pc = .ok (.i2l, 1)) : em_IOK P T KK g D dA aty cl base H00 mm (pc, (.i2l, 1, [])) := by
  subst hc
  exact em_ok_of rfl hd rfl rfl fun p l e R s m args below meth c Q s0 d ls st w CK => em_i_i2l CK.1 hd
theorem em_o_i2b (hc : (T mm).2.1 = cc) (hd : decode cc pc = .ok (.i2b, 1)) : em_IOK P T KK g D dA aty cl base H00 mm (pc, (.i2b, 1, [])) := by
  subst hc
  exact em_ok_of rfl hd rfl rfl fun p l e R s m args below meth c Q s0 d ls st w CK => em_i_i2b CK.1 hd
theorem em_o_i2c (hc : (T mm).2.1 = cc) (hd : decode cc pc = .ok (.i2c, 1)) : em_IOK P T KK g D dA aty cl base H00 mm (pc, (.i2c, 1, [])) := by
  subst hc
  exact em_ok_of rfl hd rfl rfl fun p l e R s m args below meth c Q s0 d ls st w CK => em_i_i2c CK.1 hd
theorem em_o_l2i (hc : (T mm).2.1 = cc) (hd : decode cc pc = .ok (.l2i, 1)) : em_IOK P T KK g D dA aty cl base H00 mm (pc, (.l2i, 1, [])) := by
  subst hc
  exact em_ok_of rfl hd rfl rfl fun p l e R s m args below meth c Q s0 d ls st w CK => em_i_l2i CK.1 hd
theorem em_o_lcmp (hc : (T mm).2.1 = cc) (hd : decode cc pc = .ok (.lcmp, 1)) : em_IOK P T KK g D dA aty cl base H00 mm (pc, (.lcmp, 1, [])) := by
  subst hc
  exact em_ok_of rfl hd rfl rfl fun p l e R s m args below meth c Q s0 d ls st w CK => em_i_lcmp CK.1 hd
theorem em_o_dup (hc : (T mm).2.1 = cc) (hd : decode cc pc = .ok (.dup, 1)) : em_IOK P T KK g D dA aty cl base H00 mm (pc, (.dup, 1, [])) := by
  subst hc
  exact em_ok_of rfl hd rfl rfl fun p l e R s m args below meth c Q s0 d ls st w CK => em_i_dup CK.1 hd
theorem em_o_pop (hc : (T mm).2.1 = cc) (hd : decode cc pc = .ok (.pop, 1)) : em_IOK P T KK g D dA aty cl base H00 mm (pc, (.pop, 1, [])) := by
  subst hc
  exact em_ok_of rfl hd rfl rfl fun p l e R s m args below meth c Q s0 d ls st w CK => em_i_pop CK.1 hd
theorem em_o_dup_x1 (hc : (T mm).2.1 = cc) (hd : decode cc pc = .ok (.dup_x1, 1)) : em_IOK P T KK g D dA aty cl base H00 mm (pc, (.dup_x1, 1, [])) := by
  subst hc
  exact em_ok_of rfl hd rfl rfl fun p l e R s m args below meth c Q s0 d ls st w CK => em_i_dup_x1 CK.1 hd
theorem em_o_dup2 (hc : (T mm).2.1 = cc) (hd : decode cc pc = .ok (.dup2, 1)) : em_IOK P T KK g D dA aty cl base H00 mm (pc, (.dup2, 1, [])) := by
  subst hc
  exact em_ok_of rfl hd rfl rfl fun p l e R s m args below meth c Q s0 d ls st w CK => em_i_dup2 CK.1 hd
theorem em_o_icmp {cd : ClassFile.Cond} {off : Int} (hc : (T mm).2.1 = cc) (hd : decode cc pc = .ok (.if_icmp cd off, 3)) : em_IOK P T KK g D dA aty cl base H00 mm (pc, (.if_icmp cd off, 3, [])) := by
  subst hc
  exact em_ok_of rfl hd rfl rfl fun p l e R s m args below meth c Q s0 d ls st w CK => em_i_icmp CK.1 hd
theorem em_o_if {cd : ClassFile.Cond} {off : Int} (hc : (T mm).2.1 = cc) (hd : decode cc pc = .ok (.ifCond cd off, 3)) : em_IOK P T KK g D dA aty cl base H00 mm (pc, (.ifCond cd off, 3, [])) := by
  subst hc
  exact em_ok_of rfl hd rfl rfl fun p l e R s m args below meth c Q s0 d ls st w CK => em_i_if CK.1 hd
theorem em_o_acmp {cd : ACond} {off : Int} (hc : (T mm).2.1 = cc) (hd : decode cc pc = .ok (.if_acmp cd off, 3)) : em_IOK P T KK g D dA aty cl base H00 mm (pc, (.if_acmp cd off, 3, [])) := by
  subst hc
  exact em_ok_of rfl hd rfl rfl fun p l e R s m args below meth c Q s0 d ls st w CK => em_i_acmp CK.1 hd
theorem em_o_ifnull {off : Int} (hc : (T mm).2.1 = cc) (hd : decode cc pc = .ok (.ifnull off, 3)) : em_IOK P T KK g D dA aty cl base H00 mm (pc, (.ifnull off, 3, [])) := by
  subst hc
  exact em_ok_of rfl hd rfl rfl fun p l e R s m args below meth c Q s0 d ls st w CK => em_i_ifnull CK.1 hd
theorem em_o_ifnonnull {off : Int} (hc : (T mm).2.1 = cc) (hd : decode cc pc = .ok (.ifnonnull off, 3)) : em_IOK P T KK g D dA aty cl base H00 mm (pc, (.ifnonnull off, 3, [])) := by
  subst hc
  exact em_ok_of rfl hd rfl rfl fun p l e R s m args below meth c Q s0 d ls st w CK => em_i_ifnonnull CK.1 hd
theorem em_o_goto {off : Int} (hc : (T mm).2.1 = cc) (hd : decode cc pc = .ok (.goto off, 3)) : em_IOK P T KK g D dA aty cl base H00 mm (pc, (.goto off, 3, [])) := by
  subst hc
  exact em_ok_of rfl hd rfl rfl fun p l e R s m args below meth c Q s0 d ls st w CK => em_i_goto CK.1 hd
theorem em_o_ts {n : Nat} {x lo hi : Int} {offs : Array Int} (hc : (T mm).2.1 = cc) (hd : decode cc pc = .ok (.tableswitch x lo hi offs, n)) : em_IOK P T KK g D dA aty cl base H00 mm (pc, (.tableswitch x lo hi offs, n, [])) := by
  subst hc
  exact em_ok_of rfl hd rfl rfl fun p l e R s m args below meth c Q s0 d ls st w CK => em_i_ts CK.1 hd
theorem em_o_lk {n : Nat} {x : Int} {ps : Array (Int × Int)} (hc : (T mm).2.1 = cc) (hd : decode cc pc = .ok (.lookupswitch x ps, n)) : em_IOK P T KK g D dA aty cl base H00 mm (pc, (.lookupswitch x ps, n, [])) := by
  subst hc
  exact em_ok_of rfl hd rfl rfl fun p l e R s m args below meth c Q s0 d ls st w CK => em_i_lk CK.1 hd
theorem em_o_iaload (hka : ∀ s, KK s → ∀ k, k < 9 → em_ka dA aty s k) (hty : em_tyK aty) (hc : (T mm).2.1 = cc) (hd : decode cc pc = .ok (.iaload, 1)) : em_IOK P T KK g D dA aty cl base H00 mm (pc, (.iaload, 1, [])) := by
  subst hc
  exact em_ok_of rfl hd rfl rfl fun p l e R s m args below meth c Q s0 d ls st w CK => em_i_iaload CK.1 (hka _ CK.2.1) hty hd
theorem em_o_laload (hka : ∀ s, KK s → ∀ k, k < 9 → em_ka dA aty s k) (hty : em_tyK aty) (hc : (T mm).2.1 = cc) (hd : decode cc pc = .ok (.laload, 1)) : em_IOK P T KK g D dA aty cl base H00 mm (pc, (.laload, 1, [])) := by
  subst hc
  exact em_ok_of rfl hd rfl rfl fun p l e R s m args below meth c Q s0 d ls st w CK => em_i_laload CK.1 (hka _ CK.2.1) hty hd
theorem em_o_baload (hka : ∀ s, KK s → ∀ k, k < 9 → em_ka dA aty s k) (hty : em_tyK aty) (hc : (T mm).2.1 = cc) (hd : decode cc pc = .ok (.baload, 1)) : em_IOK P T KK g D dA aty cl base H00 mm (pc, (.baload, 1, [])) := by
  subst hc
  exact em_ok_of rfl hd rfl rfl fun p l e R s m args below meth c Q s0 d ls st w CK => em_i_baload CK.1 (hka _ CK.2.1) hty hd
theorem em_o_aaload (hka : ∀ s, KK s → ∀ k, k < 9 → em_ka dA aty s k) (hty : em_tyK aty) (hc : (T mm).2.1 = cc) (hd : decode cc pc = .ok (.aaload, 1)) : em_IOK P T KK g D dA aty cl base H00 mm (pc, (.aaload, 1, [])) := by
  subst hc
  exact em_ok_of rfl hd rfl rfl fun p l e R s m args below meth c Q s0 d ls st w CK => em_i_aaload CK.1 (hka _ CK.2.1) hty hd
theorem em_o_iastore (hka : ∀ s, KK s → ∀ k, k < 9 → em_ka dA aty s k) (hty : em_tyK aty) (hc : (T mm).2.1 = cc) (hd : decode cc pc = .ok (.iastore, 1)) : em_IOK P T KK g D dA aty cl base H00 mm (pc, (.iastore, 1, [])) := by
  subst hc
  exact em_ok_of rfl hd rfl rfl fun p l e R s m args below meth c Q s0 d ls st w CK => em_i_iastore CK.1 (hka _ CK.2.1) hty hd
theorem em_o_lastore (hka : ∀ s, KK s → ∀ k, k < 9 → em_ka dA aty s k) (hty : em_tyK aty) (hc : (T mm).2.1 = cc) (hd : decode cc pc = .ok (.lastore, 1)) : em_IOK P T KK g D dA aty cl base H00 mm (pc, (.lastore, 1, [])) := by
  subst hc
  exact em_ok_of rfl hd rfl rfl fun p l e R s m args below meth c Q s0 d ls st w CK => em_i_lastore CK.1 (hka _ CK.2.1) hty hd
theorem em_o_bastore (hka : ∀ s, KK s → ∀ k, k < 9 → em_ka dA aty s k) (hty : em_tyK aty) (hc : (T mm).2.1 = cc) (hd : decode cc pc = .ok (.bastore, 1)) : em_IOK P T KK g D dA aty cl base H00 mm (pc, (.bastore, 1, [])) := by
  subst hc
  exact em_ok_of rfl hd rfl rfl fun p l e R s m args below meth c Q s0 d ls st w CK => em_i_bastore CK.1 (hka _ CK.2.1) hty hd
theorem em_o_arraylength (hka : ∀ s, KK s → ∀ k, k < 9 → em_ka dA aty s k) (hc : (T mm).2.1 = cc) (hd : decode cc pc = .ok (.arraylength, 1)) : em_IOK P T KK g D dA aty cl base H00 mm (pc, (.arraylength, 1, [])) := by
  subst hc
  exact em_ok_of rfl hd rfl rfl fun p l e R s m args below meth c Q s0 d ls st w CK => em_i_arraylength CK.1 (hka _ CK.2.1) hd
theorem em_o_aastore {tk : List Nat} (hka : ∀ s, KK s → ∀ k, k < 9 → em_ka dA aty s k) (hty : em_tyK aty) (hst : ∀ s, KK s → ∀ k kq, 1000 * k + kq ∈ tk → k < 100 ∧ em_sta s D dA k kq ∧ (aty k).isReference = true) (hc : (T mm).2.1 = cc) (hd : decode cc pc = .ok (.aastore, 1)) : em_IOK P T KK g D dA aty cl base H00 mm (pc, (.aastore, 1, tk)) := by
  subst hc
  exact em_ok_of rfl hd rfl rfl fun p l e R s m args below meth c Q s0 d ls st w CK => em_i_aastore CK.1 (hka _ CK.2.1) hty (hst _ CK.2.1) hd
theorem em_o_getfield {nw : List Cond} {idx f : Nat} {ks : List Nat} (hc : (T mm).2.1 = cc) (ho : (T mm).1.cls = own) (hd : decode cc pc = .ok (.getfield idx, 3)) (hnw : ∀ s, KK s → ∀ x ∈ nw, va_Nw x s) (h : ∀ k ∈ ks, em_opF own cl nw idx f k) : em_IOK P T KK g D dA aty cl base H00 mm (pc, (.getfield idx, 3, f :: ks)) := by
  subst hc
  subst ho
  exact em_ok_of rfl hd rfl rfl fun p l e R s m args below meth c Q s0 d ls st w CK => em_i_getfield CK.1 (hnw _ CK.2.1) hd h
theorem em_o_putfield {nw : List Cond} {idx f t : Nat} {ks : List Nat} (hc : (T mm).2.1 = cc) (ho : (T mm).1.cls = own) (hd : decode cc pc = .ok (.putfield idx, 3)) (hnw : ∀ s, KK s → ∀ x ∈ nw, va_Nw x s) (h : ∀ k ∈ ks, em_opP own cl nw (T mm).1.name idx f t k) : em_IOK P T KK g D dA aty cl base H00 mm (pc, (.putfield idx, 3, f :: t :: ks)) := by
  subst hc
  subst ho
  exact em_ok_of rfl hd rfl rfl fun p l e R s m args below meth c Q s0 d ls st w CK => em_i_putfield CK.1 (hnw _ CK.2.1) hd (by rw [CK.2.2.2.1]; exact h)
theorem em_o_getstatic {nw : List Cond} {idx i : Nat} {C0 nm ds ref : String} (hc : (T mm).2.1 = cc) (ho : (T mm).1.cls = own) (hd : decode cc pc = .ok (.getstatic idx, 3)) (hnw : ∀ s, KK s → ∀ x ∈ nw, va_Nw x s) (hz : ∀ s, KK s → va_Z C0 nm ds (g.2 i) (fun q => base ≤ q) s H00) (hlk : em_lkF own nw idx ref nm ds) (hrf : em_rfF ref C0 nm ds) : em_IOK P T KK g D dA aty cl base H00 mm (pc, (.getstatic idx, 3, [i])) := by
  subst hc
  subst ho
  exact em_ok_of rfl hd rfl rfl fun p l e R s m args below meth c Q s0 d ls st w CK => em_i_getstatic CK.1 (hnw _ CK.2.1) hd (hz _ CK.2.1) hlk hrf
theorem em_o_new {idx k sl : Nat} {ts : List Nat} {r : vw_C} (hc : (T mm).2.1 = cc) (ho : (T mm).1.cls = own) (hd : decode cc pc = .ok (.new idx, 3)) (hr : cl[k]? = some r) (hk : k < 1000) (hsl : sl = r.2.2) (hlen : ts.length = r.2.2) (h1 : Cond.classLink own idx r.1 ∈ lw_all) (h2 : Cond.instantiable r.1 r.2.2 ∈ lw_all) (h3 : Cond.initialized r.1 ∈ lw_all) (hdf : ∀ (j : Nat) (ty : FieldType), j < r.2.2 → parseFieldDescriptor (r.2.1 j).2.2.1 = some ty → some (defaultValue ty) = (ts.map em_df)[j]?) : em_IOK P T KK g D dA aty cl base H00 mm (pc, (.new idx, 3, 0 :: k :: sl :: ts)) := by
  subst hc
  subst ho
  exact em_ok_of rfl hd rfl rfl fun p l e R s m args below meth c Q s0 d ls st w CK => em_i_new CK.1 hd hr hk hsl hlen h1 h2 h3 hdf
theorem em_o_make {cls : String} {names : List String} {ik ic ci : Nat} {T0 : u_T} {ds : List Nat} (hc : (T mm).2.1 = cc) (ho : (T mm).1.cls = own) (hd : decode cc pc = .ok (.new ik, 3)) (d3 : decode (T mm).2.1 (pc + 3) = .ok (.dup, 1)) (d4 : decode (T mm).2.1 (pc + 4) = .ok (.invokespecial ic, 3)) (hcls : Bundle.fit cls = true) (hnames : ∀ n ∈ names, Bundle.fit n = true) (hk : Cond.classLink own ik cls ∈ lw_all) (hini : Cond.initialized cls ∈ lw_all) (hat : ∀ s args, KK s → (∀ w ∈ lw_all, w.before args s = true) → ∀ w ∈ vx_at0 own ic cls names, w.before args s = true) (hgood : ∀ w ∈ Cond.classLink own ik cls :: Cond.initialized cls :: vx_at0 own ic cls names, vx_ot w = true) (hU : ∀ s, KK s → vx_Zq Bundle.tN "UNASSIGNED_STACK" Bundle.steD (fun q => base ≤ q) s H00) (hN : ∀ s, KK s → vx_Zq Bundle.tN "SUPPRESSED_SENTINEL" Bundle.listD (fun q => base ≤ q) s H00) (hcl : cl[ci]? = some (cls, T0, 0)) (hci : ci < 100) (hnl : names.length ≤ 6) : em_IOK P T KK g D dA aty cl base H00 mm (pc, (.new ik, 3, 9 :: ci :: 6 :: ds)) := by
  subst hc
  subst ho
  exact em_ok_of rfl hd rfl rfl fun p l e R s m args below meth c Q s0 d ls st w CK => em_i_make (ds := ds) CK.1 CK.2.2.2.2.2.2.2.2.2.1 hcls hnames hk hini (hat _ _ CK.2.1 CK.1.2.2.2.1) hgood (hU _ CK.2.1) (hN _ CK.2.1) hd d3 d4 hcl hci (by have := CK.2.2.2.2.2.2.2.1; omega) (by have := CK.2.2.2.2.2.2.2.2.1; omega)
theorem em_o_newarray {at9 : ArrayType} {k t : Nat} (hc : (T mm).2.1 = cc) (hd : decode cc pc = .ok (.newarray at9, 2)) (hk : k < 100) (haty : aty k = newarray.typeOf at9) (harr : Cond.arrayClass (newarray.typeOf at9) ∈ lw_all) (hnm : ∀ s, KK s → s.vm.findClass ("[" ++ (newarray.typeOf at9).toString) = some (dA k)) (hdf : defaultValue (newarray.typeOf at9) = em_df t) (hfit : fits (newarray.typeOf at9) (em_df t) = true) (hcb : componentBytes (newarray.typeOf at9) ≤ 8) : em_IOK P T KK g D dA aty cl base H00 mm (pc, (.newarray at9, 2, [k, t])) := by
  subst hc
  exact em_ok_of rfl hd rfl rfl fun p l e R s m args below meth c Q s0 d ls st w CK => em_i_newarray CK.1 hd hk haty harr (hnm _ CK.2.1) hdf hfit hcb
theorem em_o_anewarray {idx k : Nat} {nm : String} (hc : (T mm).2.1 = cc) (ho : (T mm).1.cls = own) (hd : decode cc pc = .ok (.anewarray idx, 3)) (hk : k < 100) (haty : aty k = .object nm) (hlk : Cond.classLink own idx nm ∈ lw_all) (hover : ∀ s, KK s → va_AO nm s) (hnm : ∀ s, KK s → s.vm.findClass ("[" ++ (FieldType.object nm).toString) = some (dA k)) : em_IOK P T KK g D dA aty cl base H00 mm (pc, (.anewarray idx, 3, [k, 2])) := by
  subst hc
  subst ho
  exact em_ok_of rfl hd rfl rfl fun p l e R s m args below meth c Q s0 d ls st w CK => em_i_anewarray CK.1 hd hk haty hlk (va_AO.use (hover _ CK.2.1)) (hnm _ CK.2.1)
theorem em_o_anewarrayA {idx k : Nat} {t9 : FieldType} (hc : (T mm).2.1 = cc) (ho : (T mm).1.cls = own) (hd : decode cc pc = .ok (.anewarray idx, 3)) (hk : k < 100) (haty : aty k = .array t9) (hlk : Cond.classLink own idx (FieldType.array t9).toString ∈ lw_all) (hover : ∀ s args, KK s → (Cond.arrayOver (.array t9)).before args s = true) (hnm : ∀ s, KK s → s.vm.findClass ("[" ++ (FieldType.array t9).toString) = some (dA k)) : em_IOK P T KK g D dA aty cl base H00 mm (pc, (.anewarray idx, 3, [k, 2])) := by
  subst hc
  subst ho
  exact em_ok_of rfl hd rfl rfl fun p l e R s m args below meth c Q s0 d ls st w CK => em_i_anewarrayA CK.1 hd hk haty hlk (hover _ _ CK.2.1) (hnm _ CK.2.1)
theorem em_o_multi {idx ko ki : Nat} (hc : (T mm).2.1 = cc) (ho : (T mm).1.cls = own) (hd : decode cc pc = .ok (.multianewarray idx 2, 4)) (hko : ko < 100) (hki : ki < 100) (hto : aty ko = .array .int) (hti : aty ki = .int) (h1 : Cond.classLink own idx ("[" ++ (FieldType.array .int).toString) ∈ lw_all) (h2 : ∀ s args, KK s → (Cond.arrayOver (.array .int)).before args s = true) (h3 : Cond.arrayClass .int ∈ lw_all) (h4 : ∀ s, KK s → s.vm.findClass ("[" ++ (FieldType.array .int).toString) = some (dA ko)) (h5 : ∀ s, KK s → s.vm.findClass (FieldType.array .int).toString = some (dA ki)) : em_IOK P T KK g D dA aty cl base H00 mm (pc, (.multianewarray idx 2, 4, [ko, ki])) := by
  subst hc
  subst ho
  exact em_ok_of rfl hd rfl rfl fun p l e R s m args below meth c Q s0 d ls st w CK => em_i_multi CK.1 hd hko hki hto hti h1 (h2 _ _ CK.2.1) h3 (h4 _ CK.2.1) (h5 _ CK.2.1)
theorem em_o_checkcast {idx : Nat} {nm : String} {ks : List Nat} (hc : (T mm).2.1 = cc) (ho : (T mm).1.cls = own) (hd : decode cc pc = .ok (.checkcast idx, 3)) (hlk : Cond.classLink own idx nm ∈ lw_all) (hk : ∀ s, KK s → ∀ k ∈ ks, em_csb s D dA nm true k) : em_IOK P T KK g D dA aty cl base H00 mm (pc, (.checkcast idx, 3, ks)) := by
  subst hc
  subst ho
  exact em_ok_of rfl hd rfl rfl fun p l e R s m args below meth c Q s0 d ls st w CK => em_i_checkcast CK.1 hd hlk (hk _ CK.2.1)
theorem em_o_instanceof {idx j : Nat} {nm : String} {ks : List Nat} (hc : (T mm).2.1 = cc) (ho : (T mm).1.cls = own) (hd : decode cc pc = .ok (.instanceof idx, 3)) (hlk : Cond.classLink own idx nm ∈ lw_all) (hk1 : ∀ s, KK s → ∀ k ∈ ks.take j, em_csb s D dA nm true k) (hk2 : ∀ s, KK s → ∀ k ∈ ks.drop j, em_csb s D dA nm false k) : em_IOK P T KK g D dA aty cl base H00 mm (pc, (.instanceof idx, 3, j :: ks)) := by
  subst hc
  subst ho
  exact em_ok_of rfl hd rfl rfl fun p l e R s m args below meth c Q s0 d ls st w CK => em_i_instanceof CK.1 hd hlk (hk1 _ CK.2.1) (hk2 _ CK.2.1)
theorem em_o_ldcI {idx x : Nat} (hc : (T mm).2.1 = cc) (ho : (T mm).1.cls = own) (hd : decode cc pc = .ok (.ldc idx, 2)) (hlk : Cond.constant own idx (Int32.ofNat x) ∈ lw_all) : em_IOK P T KK g D dA aty cl base H00 mm (pc, (.ldc idx, 2, [0, x])) := by
  subst hc
  subst ho
  exact em_ok_of rfl hd rfl rfl fun p l e R s m args below meth c Q s0 d ls st w CK => em_i_ldcI (g := g) CK.1 hd hlk
theorem em_o_ldcwI {idx x : Nat} (hc : (T mm).2.1 = cc) (ho : (T mm).1.cls = own) (hd : decode cc pc = .ok (.ldc_w idx, 3)) (hlk : Cond.constant own idx (Int32.ofNat x) ∈ lw_all) : em_IOK P T KK g D dA aty cl base H00 mm (pc, (.ldc_w idx, 3, [0, x])) := by
  subst hc
  subst ho
  exact em_ok_of rfl hd rfl rfl fun p l e R s m args below meth c Q s0 d ls st w CK => em_i_ldcwI (g := g) CK.1 hd hlk
theorem em_o_ldcS {idx i : Nat} {tx : String} (hc : (T mm).2.1 = cc) (ho : (T mm).1.cls = own) (hd : decode cc pc = .ok (.ldc idx, 2)) (hr : ∀ s, KK s → vk_R own idx tx (g.1 i) s) : em_IOK P T KK g D dA aty cl base H00 mm (pc, (.ldc idx, 2, [1, i])) := by
  subst hc
  subst ho
  exact em_ok_of rfl hd rfl rfl fun p l e R s m args below meth c Q s0 d ls st w CK => em_i_ldcS CK.1 hd (hr _ CK.2.1)
theorem em_o_ldcM {idx i : Nat} {nm : String} (hc : (T mm).2.1 = cc) (ho : (T mm).1.cls = own) (hd : decode cc pc = .ok (.ldc idx, 2)) (hlk : Cond.classLink own idx nm ∈ lw_all) (hM : ∀ s, KK s → va_Mi nm (g.1 i) s) : em_IOK P T KK g D dA aty cl base H00 mm (pc, (.ldc idx, 2, [1, i])) := by
  subst hc
  subst ho
  exact em_ok_of rfl hd rfl rfl fun p l e R s m args below meth c Q s0 d ls st w CK => em_i_ldcM CK.1 hd hlk (hM _ CK.2.1)
theorem em_o_ldc2 {idx x : Nat} (hc : (T mm).2.1 = cc) (ho : (T mm).1.cls = own) (hd : decode cc pc = .ok (.ldc2_w idx, 3)) (hlk : Cond.constantLong own idx (Int64.ofNat x) ∈ lw_all) : em_IOK P T KK g D dA aty cl base H00 mm (pc, (.ldc2_w idx, 3, [x])) := by
  subst hc
  subst ho
  exact em_ok_of rfl hd rfl rfl fun p l e R s m args below meth c Q s0 d ls st w CK => em_i_ldc2 CK.1 hd hlk
/-- steps by a call's instruction that are no calls -/
theorem em_iv_nc {d n : Nat} {ls st : List Value} {w : em_W} {ks : List Nat} (hk : ∃ a r, ks = a :: r ∧ 2 ≤ a) : em_n9 (em_iv g d pc n ls st w ks) := by
  obtain ⟨a, r, rfl, ha⟩ := hk
  intro x h
  unfold em_iv at h
  revert h
  split <;> first
    | (rename_i e; cases e; omega)
    | (unfold em_cp; (repeat' split) <;> first | (intro h; cases h; done) | exact em_n_nx _)
    | ((repeat' split) <;> first | (intro h; cases h; done) | exact em_n_nx _)
theorem em_ok_iv {i : Instr} {n : Nat} {ks : List Nat} (hc : (T mm).2.1 = cc) (hd : decode cc pc = .ok (i, n)) (hr : em_r1 i n = true) (hk : ∃ a r, ks = a :: r ∧ 2 ≤ a) (hi : ∀ (d : Nat) (rt : Option FieldType) (ls st : List Value) (w : em_W), em_st g d rt pc n [] ls st w ks i = em_iv g d pc n ls st w ks) (hs : em_SOK P T KK g D dA aty cl base H00 mm (pc, (i, n, ks))) : em_IOK P T KK g D dA aty cl base H00 mm (pc, (i, n, ks)) := by
  refine ⟨by rw [hc]; exact hd, hr, hs, ?_⟩
  intro p l e R s m args below meth c d ls st w m' n' as st' CK h
  dsimp only at h
  rw [hi] at h
  exact absurd h (em_iv_nc hk _)
/-- a call proper: it's no step -/
theorem em_ok_call {i : Instr} {n : Nat} {ks : List Nat} (hc : (T mm).2.1 = cc) (hd : decode cc pc = .ok (i, n)) (hr : em_r1 i n = true) (hk : ∃ a r, ks = a :: r ∧ a < 2) (hi : ∀ (d : Nat) (rt : Option FieldType) (ls st : List Value) (w : em_W), em_st g d rt pc n [] ls st w ks i = em_iv g d pc n ls st w ks) (hs : em_COK P T KK g D dA aty cl base H00 mm (pc, (i, n, ks))) : em_IOK P T KK g D dA aty cl base H00 mm (pc, (i, n, ks)) := by
  refine ⟨by rw [hc]; exact hd, hr, ?_, hs⟩
  intro p l e R s m args below meth c Q s0 d ls st w CK pc' ls' st' h q
  dsimp only at q
  rw [hi] at q
  obtain ⟨a, r, rfl, ha⟩ := hk
  exfalso
  unfold em_iv at q
  revert q
  split <;> first
    | (rename_i e; cases e; omega)
    | ((repeat' split) <;> (intro h; cases h))
theorem em_o_copy {idx : Nat} {tk : List Nat} (hc : (T mm).2.1 = cc) (ho : (T mm).1.cls = own) (hd : decode cc pc = .ok (.invokestatic idx, 3)) (hka : ∀ s, KK s → ∀ k, k < 9 → em_ka dA aty s k) (hty : em_tyK aty) (hst : ∀ s, KK s → ∀ kq, 4000 + kq ∈ tk → em_sta s D dA 4 kq) (t1 : Cond.methodLink own idx arraycopyName ∈ lw_all) (t2 : Cond.native arraycopyName ∈ lw_all) (t3 : Cond.static arraycopyName ∈ lw_all) (t4 : Cond.initialized "java/lang/System" ∈ lw_all) : em_IOK P T KK g D dA aty cl base H00 mm (pc, (.invokestatic idx, 3, 2 :: tk)) := by
  subst hc
  subst ho
  refine em_ok_iv rfl hd rfl ⟨2, tk, rfl, Nat.le_refl 2⟩ (fun _ _ _ _ _ => rfl) fun p l e R s m args below meth c Q s0 d ls st w CK => ?_
  intro pc' ls' st' h q
  dsimp only at q
  have q : em_iv g d pc 3 ls st w (2 :: tk) = some (.inr (.inl (pc', ls', st', h))) := q
  simp only [em_iv] at q
  split at q
  · rename_i h8
    exact em_i_copy CK.1 (hka _ CK.2.1) hty hd (hst _ CK.2.1) t1 (CK.1.2.2.2.1 _ t2) t3 t4 (by have := CK.2.2.2.2.2.2.2.1; omega) (by have := CK.2.2.2.2.2.2.2.2.1; omega) (fun st' x dp sp d a e => by
      have := of_decide_eq_true h8
      rw [e] at this
      exact this) pc' ls' st' h q
  · cases q
theorem em_o_objInit {idx : Nat} (hc : (T mm).2.1 = cc) (ho : (T mm).1.cls = own) (hd : decode cc pc = .ok (.invokespecial idx, 3)) (h1 : Cond.methodLink own idx Lib.objectInit ∈ lw_all) (h2 : Cond.instanceMethod Lib.objectInit ∈ lw_all) (h3 : Cond.code Lib.objectInit ⟨#[0xb1]⟩ 1 none ∈ lw_all) : em_IOK P T KK g D dA aty cl base H00 mm (pc, (.invokespecial idx, 3, [3])) := by
  subst hc
  subst ho
  exact em_ok_iv rfl hd rfl ⟨3, [], rfl, by decide⟩ (fun _ _ _ _ _ => rfl) fun p l e R s m args below meth c Q s0 d ls st w CK => em_i_objInit (g := g) (dd := d) CK.1 hd h1 h2 h3 (by have := CK.2.2.2.2.2.2.2.1; omega) (by have := CK.2.2.2.2.2.2.2.2.1; omega)
theorem em_o_getClass {idx i : Nat} {nm : String} (hc : (T mm).2.1 = cc) (ho : (T mm).1.cls = own) (hd : decode cc pc = .ok (.invokevirtual idx, 3)) (h1 : Cond.methodLink own idx ⟨"java/lang/Object", "getClass", "()Ljava/lang/Class;"⟩ ∈ lw_all) (h2 : ∀ s args, KK s → (Cond.declares ⟨"java/lang/Object", "getClass", "()Ljava/lang/Class;"⟩).before args s = true) (h3 : Cond.selects nm ⟨"java/lang/Object", "getClass", "()Ljava/lang/Class;"⟩ ⟨"java/lang/Object", "getClass", "()Ljava/lang/Class;"⟩ ∈ lw_all) (h4 : Cond.instanceMethod ⟨"java/lang/Object", "getClass", "()Ljava/lang/Class;"⟩ ∈ lw_all) (h5 : Cond.native ⟨"java/lang/Object", "getClass", "()Ljava/lang/Class;"⟩ ∈ lw_all) (hM : ∀ s, KK s → va_Mi nm (g.1 i) s) (hnm : ∀ s, KK s → s.vm.findClass nm = some (dA 4)) : em_IOK P T KK g D dA aty cl base H00 mm (pc, (.invokevirtual idx, 3, [6, i])) := by
  subst hc
  subst ho
  exact em_ok_iv rfl hd rfl ⟨6, [i], rfl, by decide⟩ (fun _ _ _ _ _ => rfl) fun p l e R s m args below meth c Q s0 d ls st w CK => em_i_getClass (g := g) (dd := d) CK.1 hd h1 (h2 _ _ CK.2.1) h3 h4 (CK.1.2.2.2.1 _ h5) (hM _ CK.2.1) (hnm _ CK.2.1) (by have := CK.2.2.2.2.2.2.2.1; omega) (by have := CK.2.2.2.2.2.2.2.2.1; omega)
end EMO
