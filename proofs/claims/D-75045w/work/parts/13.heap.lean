/-! SOUNDNESS of the steps that read and write cells -/
/-- the number of a kind in the real machine -/
def em_kc (D : va_G) (dA : Nat → ClassId) (k : Nat) : ClassId := if k < 100 then D.1 k else if k < 900 then dA (k - 100) else dA k
theorem em_fl_some {w : em_W} {a k : Nat} {fs : List Value} (h : em_fl w a = some (k, fs)) : w.2.2 a = some (.inl (k, fs)) := by
  unfold em_fl at h
  split at h
  · rename_i o ho
    cases h
    exact ho
  · cases h
theorem em_ar_some {w : em_W} {a k n : Nat} {f : Nat → Value} (h : em_ar w a = some (k, n, f)) : w.2.2 a = some (.inr (k, n, f)) := by
  unfold em_ar at h
  split at h
  · rename_i o ho
    cases h
    exact ho
  · cases h
/-- what lies at an address of a known kind -/
theorem em_kd_cell {D : va_G} {dA : Nat → ClassId} {aty : Nat → FieldType} {cl : List vw_C} {base : Nat} {H00 : Heap} {w : em_W} {H : Heap} {a k : Nat} (hcl : cl.length ≤ 100) (hw : em_wok D dA aty cl base H00 w H) (h : em_kd w a = some k) : ∃ cell : Cell, H[a]? = some cell ∧ (∀ q, cell.vm ≠ .statics q) ∧ cell.cls = em_kc D dA k := by
  unfold em_kd at h
  split at h
  · rename_i o ho
    cases h
    obtain ⟨h1, -⟩ := hw.2.2.2 _ _ ho
    rcases h1 with ⟨r, h1, h2, cell, h3, h4, h5, -⟩ | ⟨h0, cell, h1, h2, h3, -⟩
    · have hk := (List.getElem?_eq_some_iff.mp h1).1
      exact ⟨cell, h3, fun q z => (by rw [h5] at z; cases z), by rw [h4, em_kc, if_pos (by omega)]⟩
    · exact ⟨cell, h1, fun q z => (by rw [h3] at z; cases z), by rw [h2, em_kc, if_neg (by omega), if_neg (by omega)]⟩
  · rename_i r hr
    cases h
    obtain ⟨⟨⟨h0, -⟩, cell, h1, h2, h3, -⟩, -⟩ := hw.2.2.2 _ _ hr
    exact ⟨cell, h1, h3, by rw [h2, em_kc, if_neg (by omega), if_pos (by omega), Nat.add_sub_cancel_left]⟩
  · cases h
theorem em_notst {cell : Cell} (h : ∀ q, cell.vm ≠ .statics q) : cell.vm.isStatics = false := by
  cases hv : cell.vm <;> first | rfl | exact absurd hv (h _)
/-- a field's place by the tables -/
def em_lkF (own : String) (nw : List Cond) (index : Nat) (ref n d : String) : Prop := Cond.fieldLink own index ref n d ∈ lw_all ∨ ∃ host, Cond.fieldLinkNest own index ref n d host ∈ nw
def em_rfF (ref C n d : String) : Prop := ref = C ∨ Cond.sameField ref C n d ∈ lw_all
theorem em_rfF.use {ref C n d : String} {args : Array Value} {s : State} (hts : ∀ w ∈ lw_all, w.before args s = true) (h : em_rfF ref C n d) : ∀ x, s.fieldFound? C n d = some x → s.fieldFound? ref n d = some x := by
  rcases h with rfl | h
  · exact fun _ z => z
  · exact fun x z => u_same (hts _ h) x z
def em_opF (own : String) (cl : List vw_C) (nw : List Cond) (index f k : Nat) : Prop := ∃ (r : vw_C) (ref : String), cl[k]? = some r ∧ f < r.2.2 ∧ em_lkF own nw index ref (r.2.1 f).2.1 (r.2.1 f).2.2.1 ∧ em_rfF ref (r.2.1 f).1 (r.2.1 f).2.1 (r.2.1 f).2.2.1
def em_fty : Nat → FieldType → Prop
  | 0, ty => ty = .int
  | 1, ty => ty = .long
  | 2, ty => ty.isReference = true
  | 3, ty => ty = .boolean
  | 4, ty => ty = .byte
  | 5, ty => ty = .char
  | _, _ => False
theorem em_ty_3 {v : Value} (h : em_ty 3 v = true) : ∃ x, v = .int x ∧ (x = 0 ∨ x = 1) := by
  match v, h with
  | .int x, h => exact ⟨x, rfl, by simpa [em_ty] using h⟩
theorem em_ty_4 {v : Value} (h : em_ty 4 v = true) : ∃ x, v = .int x ∧ x.toInt8.toInt32 = x := by
  match v, h with
  | .int x, h => exact ⟨x, rfl, of_decide_eq_true h⟩
theorem em_ty_5 {v : Value} (h : em_ty 5 v = true) : ∃ x, v = .int x ∧ (x.toUInt32 % 65536).toInt32 = x := by
  match v, h with
  | .int x, h => exact ⟨x, rfl, of_decide_eq_true h⟩
theorem em_fty_fit {t : Nat} {ty : FieldType} {v : Value} (h : em_fty t ty) (e : em_ty t v = true) : narrow ty v = v ∧ fits ty v = true := by
  match t, h, e with
  | 0, h, e => obtain ⟨x, rfl⟩ := em_ty_0 e; cases h; exact ⟨rfl, rfl⟩
  | 1, h, e => obtain ⟨x, rfl⟩ := em_ty_1 e; cases h; exact ⟨rfl, rfl⟩
  | 2, h, e => rcases em_ty_2 e with rfl | ⟨a, rfl⟩ <;> cases ty <;> first | exact ⟨rfl, rfl⟩ | cases h
  | 3, h, e =>
    cases h
    obtain ⟨x, rfl, rfl | rfl⟩ := em_ty_3 e <;> exact ⟨by decide, by decide⟩
  | 4, h, e =>
    cases h
    obtain ⟨x, rfl, e2⟩ := em_ty_4 e
    exact ⟨by show Value.int _ = _; rw [e2], by rw [← e2]; exact pk_fb x⟩
  | 5, h, e =>
    cases h
    obtain ⟨x, rfl, e2⟩ := em_ty_5 e
    exact ⟨by rw [← e2]; exact pk_nc x, by rw [← e2]; exact pk_fc x⟩
section EMH
variable {p : Program} {l : Launch} {e : Env} {R : Room} {s : State} {m : MethodId} {args : Array Value} {below : List Frame} {meth : Method} {c : Code} {Q : State → Prop}
variable {D : va_G} {dA : Nat → ClassId} {aty : Nat → FieldType} {cl : List vw_C} {base nL s0 : Nat} {H00 : Heap} {cc : ByteArray} {own : String} {w : em_W} {ls st : List Value} {pc n : Nat} {nw : List Cond} {g : em_G}
theorem em_i_getfield (C : em_Cx p s m args c cc own nL D cl) (hnw : ∀ x ∈ nw, va_Nw x s) {index : Nat} {f : Nat} {ks : List Nat} (hd : decode cc pc = .ok (.getfield index, 3)) (ho : ∀ k ∈ ks, em_opF own cl nw index f k) : em_Sp p l e R s m args below meth c Q D dA aty cl base nL s0 H00 w ls st pc (em_gf pc 3 (f :: ks) ls w st) := by
  intro pc' ls' st' h q _ _ kk
  unfold em_gf at q
  split at q
  · rename_i a rest
    split at q
    · rename_i k fs f' ks' hfl hds
      cases hds
      split at q
      · rename_i hk
        split at q
        · rename_i v hv
          obtain ⟨rfl, rfl, rfl, rfl⟩ := em_nx_inv q
          obtain ⟨r, ref, hr, hf, hlk, hrf⟩ := ho _ (by simpa using hk)
          intro lsM H locs cells slots h1 h2 h3 h4 h5
          have k2 := kk lsM H locs cells slots h1 h2 h3 h4 h5
          obtain ⟨hx, hb, hown, hts, -, hK, hcf⟩ := C
          have hcell := (h2.2.2.2 _ _ (em_fl_some hfl)).1
          have hlt : k % 1000 < 100 := Nat.lt_of_lt_of_le (List.getElem?_eq_some_iff.mp hr).1 hcf.1
          rcases hcell with ⟨r', hr', hlen, cell, q1, q2, q3, q4⟩ | ⟨h0, -⟩
          · cases hr.symm.trans hr'
            obtain ⟨hS, hfc, kC, hkC, hkind⟩ := hK.1 _ _ hr
            obtain ⟨cf, kf, fi, fd, hi, hsl⟩ := hS f hf
            have hst := (u_facts hfc hkC (u_lays hts (hcf.2 _ _ hr).1 hf) hi).1
            have hvs : cell.slots[fd.slot]? = some v := by
              rw [hsl, q4 f hf]
              simp [vp_V, hv]
            rcases hlk with hlk | ⟨host, hlk⟩
            · exact W.getf hx hb hown (hts _ hlk) (hrf.use hts _ hi) hst q1 (by rw [q3]; exact fun h => by cases h) hvs rfl rfl hd k2
            · exact va_Wgetf hx hb hown (va_Nw.use rfl (hnw _ hlk)) (hrf.use hts _ hi) hst q1 (by rw [q3]; exact fun h => by cases h) hvs rfl rfl hd k2
          · have h0 : 900 ≤ k % 1000 := h0
            omega
        · cases q
      · cases q
    · cases q
  · cases q
/-- a field that is written: no final one, or a final one of its own kind in a constructor -/
def em_opP (own : String) (cl : List vw_C) (nw : List Cond) (mname : String) (index f t k : Nat) : Prop := ∃ (r : vw_C) (ref : String) (ty : FieldType), cl[k]? = some r ∧ f < r.2.2 ∧ em_rfF ref (r.2.1 f).1 (r.2.1 f).2.1 (r.2.1 f).2.2.1 ∧ parseFieldDescriptor (r.2.1 f).2.2.1 = some ty ∧ em_fty t ty ∧
  (((r.2.1 f).2.2.2 = false ∧ em_lkF own nw index ref (r.2.1 f).2.1 (r.2.1 f).2.2.1) ∨ ((r.2.1 f).2.2.2 = true ∧ Cond.fieldLink own index ref (r.2.1 f).2.1 (r.2.1 f).2.2.1 ∈ lw_all ∧ mname = "<init>" ∧ (r.2.1 f).1 = own))
theorem em_i_putfield (C : em_Cx p s m args c cc own nL D cl) (hnw : ∀ x ∈ nw, va_Nw x s) {index : Nat} {f t : Nat} {ks : List Nat} (hd : decode cc pc = .ok (.putfield index, 3)) (ho : ∀ k ∈ ks, em_opP own cl nw meth.name index f t k) : em_Sp p l e R s m args below meth c Q D dA aty cl base nL s0 H00 w ls st pc (em_pf pc 3 (f :: t :: ks) ls w st) := by
  intro pc' ls' st' h q _ _ kk
  unfold em_pf at q
  split at q
  · rename_i v a rest
    split at q
    · rename_i k fs f' t' ks' hfl hds
      cases hds
      split at q
      · rename_i hk
        simp only [Bool.and_eq_true, decide_eq_true_eq] at hk
        obtain ⟨⟨⟨hk1, hk2⟩, hty⟩, hfl2⟩ := hk
        cases q
        obtain ⟨r, ref, ty, hr, hf, hrf, hpd, hft, hlk⟩ := ho k (by simpa using hk2)
        obtain ⟨hn, hfit⟩ := em_fty_fit hft hty
        intro lsM H locs cells slots h1 h2 h3 h4 h5
        obtain ⟨hx, hb, hown, hts, -, hK, hcf⟩ := C
        have hw := em_fl_some hfl
        obtain ⟨hcell, hbase⟩ := h2.2.2.2 _ _ hw
        have hbase : base ≤ a := hbase hk1
        have hlt : k < 100 := Nat.lt_of_lt_of_le (List.getElem?_eq_some_iff.mp hr).1 hcf.1
        have hmod : k % 1000 = k := Nat.mod_eq_of_lt hk1
        rcases hcell with ⟨r', hr', hlen, hob⟩ | ⟨h0, -⟩
        · dsimp only at hr' hlen hob
          rw [hmod] at hr' hob
          cases hr.symm.trans hr'
          obtain ⟨cell, q1, q2, q3, q4⟩ := hob
          obtain ⟨hin, ⟨ty0, hty0⟩, hnm⟩ := hcf.2 _ _ hr
          have hap := va_apart (own := own) hts hin ty0 hty0 hnm hK hr
          obtain ⟨hS, hfc, kC, hkC, hkind⟩ := hK.1 _ _ hr
          obtain ⟨cf, kf, fi, fd, hi, hsl⟩ := hS f hf
          have hst := (u_facts hfc hkC (u_lays hts hin hf) hi).1
          have fin : ∀ H' : Heap, H'[a]? = some (cell.setSlot fd.slot v) → H'.size = H.size → (∀ q, q ≠ a → H'[q]? = H[q]?) → W p l e R s m args below meth c H' (locs ++ [⟨a, fd.slot⟩]) cells slots Q (F0 m (pc + 3) lsM st') := by
            intro H' e1 e2 e3
            rw [hsl] at e1
            refine kk lsM H' _ cells slots h1 (h2.set hbase e2 (Or.inl ⟨r, by dsimp only; rw [hmod]; exact hr, by dsimp only; rw [List.length_set]; exact hlen, ?_⟩) e3) (fun z hz => ?_) h4 h5
            · dsimp only
              rw [hmod]
              exact t_OB.to (V := updV (vp_V fs) f v) ⟨_, e1, q2, q3, t_set q4 hap hf v⟩ (fun j _ => vp_updV_set hfl2 v j)
            · rcases List.mem_append.mp hz with h | h
              · exact h3 z h
              · rw [List.mem_singleton.mp h]; exact hbase
          rcases hlk with ⟨hfin, hlk⟩ | ⟨hfin, hlk, hini, hdecl⟩
          · have hlay := hts _ (hin _ (u_in_lay hf))
            unfold u_lay at hlay
            rw [if_neg (by rw [hfin]; decide)] at hlay
            have h6 := u_store hfc hkC hkind hlay hi hpd hn hfit
            rcases hlk with hlk | ⟨host, hlk⟩
            · exact W.putK hx hb (f := fd) ⟨hown, hts _ hlk, ⟨_, _, _, hrf.use hts _ hi⟩, hst⟩ (by rw [q2]; exact h6) q1 q3 (by rw [hsl]; exact k2_hasslot (q4 f hf)) rfl rfl hd fin
            · exact va_WputK hx hb (f := fd) hown (va_Nw.use rfl (hnw _ hlk)) (hrf.use hts _ hi) hst (by rw [q2]; exact h6) q1 q3 (by rw [hsl]; exact k2_hasslot (q4 f hf)) rfl rfl hd fin
          · have hlay := hts _ (hin _ (u_in_lay hf))
            unfold u_lay at hlay
            rw [if_pos hfin] at hlay
            have hcf2 : m.cls = cf := by
              obtain ⟨_, _, c', _, _, _, -, -, hf', -, -, -, hown2, -⟩ := Cond.laysFinal_spec hlay
              have e1 : c' = cf := by have := hi.symm.trans hf'; simp at this; exact this.1.symm
              rw [hdecl] at hown2
              rw [← e1]; exact Option.some.inj (hown.symm.trans hown2)
            have h6 := u_fits hfc hkC hkind (Or.inr hlay) hi hpd hn hfit
            exact W.putFinK hx hb hown (hts _ hlk) (hrf.use hts _ hi) hst hcf2 hini (by rw [q2]; exact h6) q1 q3 (by rw [hsl]; exact k2_hasslot (q4 f hf)) rfl rfl hd fin
        · have h0 : 900 ≤ k % 1000 := h0
          omega
      · cases q
    · cases q
  · cases q
end EMH
