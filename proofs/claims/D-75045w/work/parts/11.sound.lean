/-! SOUNDNESS of the pure machine's plain steps over the real one -/
def em_prs (ls : List Value) : List (Nat × Value) := (List.range ls.length).filterMap (fun k => match ls[k]? with
  | some v => if em_isU v = true then none else some (k, v)
  | none => none)
theorem em_prs_mem {ls : List Value} {k : Nat} {v : Value} : (k, v) ∈ em_prs ls ↔ ls[k]? = some v ∧ em_isU v = false := by
  unfold em_prs
  rw [List.mem_filterMap]
  constructor
  · rintro ⟨j, hj, e⟩
    cases h : ls[j]? with
    | none => rw [h] at e; cases e
    | some u =>
      rw [h] at e
      dsimp only at e
      by_cases hu : em_isU u = true
      · rw [if_pos hu] at e; cases e
      · rw [if_neg hu] at e
        cases e
        exact ⟨h, by simpa using hu⟩
  · rintro ⟨h, hu⟩
    refine ⟨k, List.mem_range.mpr (List.getElem?_eq_some_iff.mp h).1, ?_⟩
    rw [h]
    dsimp only
    rw [if_neg (by rw [hu]; decide)]
/-- the machine's locals hold the list's -/
def em_LR (lsM : Array Slot) (nL : Nat) (ls : List Value) : Prop := ls.length = nL ∧ lv_has lsM nL (em_prs ls) ∧ ∀ (k : Nat) (v : Value), ls[k]? = some v → v.category = 2 → ls[k + 1]? = some (.retAddr 1)
theorem em_LR.at {lsM : Array Slot} {nL : Nat} {ls : List Value} (h : em_LR lsM nL ls) {k : Nat} {v : Value} (e : ls[k]? = some v) (hu : em_isU v = false) : lsM[k]? = some (.val v) := h.2.1.2.2 (k, v) (em_prs_mem.mpr ⟨e, hu⟩)
theorem em_LR.set1 {lsM lsM' : Array Slot} {nL : Nat} {ls : List Value} (h : em_LR lsM nL ls) {k : Nat} {v : Value} (hv : v.category = 1) (hf : em_fr ls k = true) (h' : lv_has lsM' nL ((k, v) :: (em_prs ls).filter (fun q => !(q.1 == k) && !(q.1 + 1 == k && q.2.category == 2)))) : em_LR lsM' nL (ls.set k v) := by
  unfold em_fr at hf
  have hk : ∃ u, ls[k]? = some u ∧ em_sc u = false := by
    cases q : ls[k]? with
    | none => rw [q] at hf; cases hf
    | some u => rw [q] at hf; exact ⟨u, rfl, by simpa using hf⟩
  obtain ⟨u0, hk0, hs0⟩ := hk
  have hkl : k < ls.length := (List.getElem?_eq_some_iff.mp hk0).1
  have hnr : ls[k]? ≠ some (.retAddr 1) := by
    rw [hk0]
    intro q
    cases q
    cases hs0
  refine ⟨by rw [List.length_set]; exact h.1, ⟨h'.1, h'.2.1, fun q hq => ?_⟩, fun j u e hc => ?_⟩
  · obtain ⟨j, u⟩ := q
    obtain ⟨e, hu⟩ := em_prs_mem.mp hq
    by_cases hj : j = k
    · subst hj
      rw [List.getElem?_set_self hkl] at e
      cases e
      exact h'.2.2 _ List.mem_cons_self
    · rw [List.getElem?_set_ne (Ne.symm hj)] at e
      refine h'.2.2 (j, u) (List.mem_cons_of_mem _ (List.mem_filter.mpr ⟨em_prs_mem.mpr ⟨e, hu⟩, ?_⟩))
      have h2 : ¬ (j + 1 = k ∧ u.category = 2) := by
        rintro ⟨q1, q2⟩
        exact hnr (q1 ▸ h.2.2 j u e q2)
      simp only [Bool.and_eq_true, Bool.not_eq_true', Bool.and_eq_false_iff, beq_eq_false_iff_ne, ne_eq]
      refine ⟨hj, ?_⟩
      by_cases q : j + 1 = k
      · exact Or.inr (fun z => h2 ⟨q, z⟩)
      · exact Or.inl q
  · by_cases hj : j = k
    · subst hj
      rw [List.getElem?_set_self hkl] at e
      cases e
      omega
    · rw [List.getElem?_set_ne (Ne.symm hj)] at e
      have h3 := h.2.2 j u e hc
      have hjk : k ≠ j + 1 := fun z => hnr (z ▸ h3)
      rw [List.getElem?_set_ne hjk]
      exact h3
theorem em_LR.set2 {lsM lsM' : Array Slot} {nL : Nat} {ls : List Value} (h : em_LR lsM nL ls) {k : Nat} {v : Value} (hf : em_fr ls k = true) (hl : k + 1 < ls.length) (h' : lv_has lsM' nL ((k, v) :: (em_prs ls).filter (fun q => !(q.1 == k) && (!(q.1 == k + 1) && !(q.1 + 1 == k && q.2.category == 2))))) : em_LR lsM' nL ((ls.set k v).set (k + 1) (.retAddr 1)) := by
  unfold em_fr at hf
  have hk : ∃ u, ls[k]? = some u ∧ em_sc u = false := by
    cases q : ls[k]? with
    | none => rw [q] at hf; cases hf
    | some u => rw [q] at hf; exact ⟨u, rfl, by simpa using hf⟩
  obtain ⟨u0, hk0, hs0⟩ := hk
  have hkl : k < ls.length := (List.getElem?_eq_some_iff.mp hk0).1
  have hnr : ls[k]? ≠ some (.retAddr 1) := by
    rw [hk0]
    intro q
    cases q
    cases hs0
  have hl2 : k + 1 < (ls.set k v).length := by rw [List.length_set]; exact hl
  refine ⟨by rw [List.length_set, List.length_set]; exact h.1, ⟨h'.1, h'.2.1, fun q hq => ?_⟩, fun j u e hc => ?_⟩
  · obtain ⟨j, u⟩ := q
    obtain ⟨e, hu⟩ := em_prs_mem.mp hq
    by_cases hj1 : j = k + 1
    · subst hj1
      rw [List.getElem?_set_self hl2] at e
      cases e
      cases hu
    rw [List.getElem?_set_ne (Ne.symm hj1)] at e
    by_cases hj : j = k
    · subst hj
      rw [List.getElem?_set_self hkl] at e
      cases e
      exact h'.2.2 _ List.mem_cons_self
    · rw [List.getElem?_set_ne (Ne.symm hj)] at e
      refine h'.2.2 (j, u) (List.mem_cons_of_mem _ (List.mem_filter.mpr ⟨em_prs_mem.mpr ⟨e, hu⟩, ?_⟩))
      have h2 : ¬ (j + 1 = k ∧ u.category = 2) := by
        rintro ⟨q1, q2⟩
        exact hnr (q1 ▸ h.2.2 j u e q2)
      simp only [Bool.and_eq_true, Bool.not_eq_true', Bool.and_eq_false_iff, beq_eq_false_iff_ne, ne_eq]
      refine ⟨hj, hj1, ?_⟩
      by_cases q : j + 1 = k
      · exact Or.inr (fun z => h2 ⟨q, z⟩)
      · exact Or.inl q
  · by_cases hj1 : j = k + 1
    · subst hj1
      rw [List.getElem?_set_self hl2] at e
      cases e
      simp [Value.category] at hc
    rw [List.getElem?_set_ne (Ne.symm hj1)] at e
    by_cases hj : j = k
    · subst hj
      rw [List.getElem?_set_self hl2]
    · rw [List.getElem?_set_ne (Ne.symm hj)] at e
      have h3 := h.2.2 j u e hc
      have hjk : k ≠ j + 1 := fun z => hnr (z ▸ h3)
      have hjk1 : k + 1 ≠ j + 1 := by omega
      rw [List.getElem?_set_ne hjk1, List.getElem?_set_ne hjk]
      exact h3
theorem em_loc_args : ∀ (as : List Value) (pre : List Value) (k : Nat) (v : Value), (∀ v ∈ as, em_isU v = false) → pre.length ≤ k → (pre ++ em_loc as)[k]? = some v → em_isU v = false → (k, v) ∈ lv_args pre.length as := by
  intro as
  induction as with
  | nil =>
    intro pre k v _ hp e _
    rw [em_loc, List.append_nil] at e
    have := (List.getElem?_eq_some_iff.mp e).1
    omega
  | cons a as ih =>
    intro pre k v ha hp e hu
    have ha' : ∀ v ∈ as, em_isU v = false := fun v h => ha v (List.mem_cons_of_mem _ h)
    rw [lv_args]
    by_cases hc : a.category = 2
    · rw [em_loc, if_pos hc] at e
      rw [if_pos hc]
      by_cases hk : k = pre.length
      · subst hk
        rw [List.getElem?_append_right (Nat.le_refl _), Nat.sub_self] at e
        cases e
        exact List.mem_cons_self
      · by_cases hk1 : k = pre.length + 1
        · subst hk1
          rw [List.getElem?_append_right (by omega), show pre.length + 1 - pre.length = 1 by omega] at e
          cases e
          cases hu
        · refine List.mem_cons_of_mem _ ?_
          have h2 := ih (pre ++ [a, .retAddr 1]) k v ha' (by simp; omega) (by rw [List.append_assoc]; exact e) hu
          simpa using h2
    · rw [em_loc, if_neg hc] at e
      rw [if_neg hc]
      by_cases hk : k = pre.length
      · subst hk
        rw [List.getElem?_append_right (Nat.le_refl _), Nat.sub_self] at e
        cases e
        exact List.mem_cons_self
      · refine List.mem_cons_of_mem _ ?_
        have h2 := ih (pre ++ [a]) k v ha' (by simp; omega) (by rw [List.append_assoc]; exact e) hu
        simpa using h2
theorem em_loc_len : ∀ as : List Value, (em_loc as).length = (lg_sl as).length := by
  intro as
  induction as with
  | nil => rfl
  | cons a as ih =>
    rw [em_loc]
    by_cases hc : a.category = 2
    · rw [if_pos hc]
      simp only [lg_sl, List.flatMap_cons, List.length_append, List.length_cons] at ih ⊢
      rw [ih]
      simp [hc]
      omega
    · rw [if_neg hc]
      simp only [lg_sl, List.flatMap_cons, List.length_append, List.length_cons] at ih ⊢
      rw [ih]
      simp [hc]
      omega
theorem em_loc_wf : ∀ (as : List Value) (k : Nat) (v : Value), (em_loc as)[k]? = some v → v.category = 2 → (em_loc as)[k + 1]? = some (.retAddr 1) := by
  intro as
  induction as with
  | nil => intro k v e; rw [em_loc] at e; simp at e
  | cons a as ih =>
    intro k v e hc
    rw [em_loc] at e ⊢
    by_cases ha : a.category = 2
    · rw [if_pos ha] at e ⊢
      match k, e with
      | 0, e => simp
      | 1, e => simp at e; subst e; simp [Value.category] at hc
      | k + 2, e =>
        simp only [List.getElem?_cons_succ] at e ⊢
        exact ih k v e hc
    · rw [if_neg ha] at e ⊢
      match k, e with
      | 0, e => simp at e; subst e; exact absurd hc ha
      | k + 1, e =>
        simp only [List.getElem?_cons_succ] at e ⊢
        exact ih k v e hc
/-- the locals with which a method begins -/
theorem em_LR_entry {P : em_M} {m nL : Nat} {as : List Value} (hn : P.2.1 m = nL) (ha : ∀ v ∈ as, em_isU v = false) (hl : (lg_sl as).length ≤ nL) : em_LR (lg_sl as ++ List.replicate (nL - (lg_sl as).length) Slot.unset).toArray nL (em_ent P m as) := by
  have h0 := lv_entry as hl
  have hlen : (em_loc as).length ≤ nL := by rw [em_loc_len]; exact hl
  refine ⟨?_, ⟨h0.1, h0.2.1, fun q hq => ?_⟩, fun k v e hc => ?_⟩
  · rw [em_ent, hn, List.length_append, List.length_replicate]
    omega
  · obtain ⟨k, v⟩ := q
    obtain ⟨e, hu⟩ := em_prs_mem.mp hq
    rw [em_ent] at e
    refine h0.2.2 (k, v) ?_
    by_cases hk : k < (em_loc as).length
    · rw [List.getElem?_append_left hk] at e
      exact em_loc_args as [] k v ha (Nat.zero_le _) e hu
    · rw [List.getElem?_append_right (by omega)] at e
      have := List.eq_of_mem_replicate (List.mem_of_getElem? e)
      subst this
      cases hu
  · rw [em_ent] at e ⊢
    by_cases hk : k < (em_loc as).length
    · rw [List.getElem?_append_left hk] at e
      have h1 := em_loc_wf as k v e hc
      rw [List.getElem?_append_left (List.getElem?_eq_some_iff.mp h1).1]
      exact h1
    · rw [List.getElem?_append_right (by omega)] at e
      have := List.eq_of_mem_replicate (List.mem_of_getElem? e)
      subst this
      simp [Value.category] at hc
