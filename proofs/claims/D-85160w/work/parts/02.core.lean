/-! THE CLEAN STATE: locals by place, a heap of objects (class number, fields by number) and arrays (type number, length, contents) -/
abbrev CC : Type := Option ((Nat ⊕ Nat) × Nat × (Nat → Value))
abbrev CH : Type := Nat × Nat × (Nat → CC)
abbrev LO : Type := List (Option Value)
/-- base, class ids, field slots, array class ids, most cells, most slots, statics, string constants, the heap at the start -/
abbrev EN : Type := Nat × (Nat → ClassId) × (Nat → Nat) × (Nat → ClassId) × Nat × Nat × (Nat → Value) × (Nat → Nat) × Heap
abbrev ez (E : EN) : Nat := E.1
abbrev eC (E : EN) : Nat → ClassId := E.2.1
abbrev eS (E : EN) : Nat → Nat := E.2.2.1
abbrev eA (E : EN) : Nat → ClassId := E.2.2.2.1
abbrev eLc (E : EN) : Nat := E.2.2.2.2.1
abbrev eLs (E : EN) : Nat := E.2.2.2.2.2.1
abbrev eSV (E : EN) : Nat → Value := E.2.2.2.2.2.2.1
abbrev eSC (E : EN) : Nat → Nat := E.2.2.2.2.2.2.2.1
abbrev eH (E : EN) : Heap := E.2.2.2.2.2.2.2.2
/-- a method: its name, code, locals, answer, handlers -/
abbrev MR : Type := MethodName × ByteArray × Nat × Option FieldType × List (Nat × Nat × Nat × Nat)
abbrev mY (M : MR) : MethodName := M.1
abbrev mB (M : MR) : ByteArray := M.2.1
abbrev mL (M : MR) : Nat := M.2.2.1
abbrev mR (M : MR) : Option FieldType := M.2.2.2.1
abbrev mH (M : MR) : List (Nat × Nat × Nat × Nat) := M.2.2.2.2
/-- locals by place -/
def LH (ls : Array Slot) (lo : LO) : Prop := ls.size = lo.length ∧ lv_wf ls ∧ ∀ (i : Nat) (v : Value), lo[i]? = some (some v) → ls[i]? = some (.val v)
def catAt (lo : LO) (i : Nat) : Nat := match lo[i]? with
  | some (some v) => v.category
  | _ => 1
def clr (lo : LO) (i : Nat) : LO := match i with
  | 0 => lo
  | k + 1 => if catAt lo k = 2 then lo.set k none else lo
def st1 (lo : LO) (i : Nat) (v : Value) : LO := (clr lo i).set i (some v)
def st2 (lo : LO) (i : Nat) (v : Value) : LO := ((clr lo i).set i (some v)).set (i + 1) none
/-- the list of known locals -/
def alo (lo : LO) : List (Nat × Value) := (List.range lo.length).filterMap (fun i => match lo[i]? with
  | some (some v) => some (i, v)
  | _ => none)
theorem alo_mem {lo : LO} {i : Nat} {v : Value} : (i, v) ∈ alo lo ↔ lo[i]? = some (some v) := by
  unfold alo
  rw [List.mem_filterMap]
  constructor
  · rintro ⟨k, _, hk⟩
    split at hk
    · rename_i w hw
      cases hk
      exact hw
    · cases hk
  · intro h
    refine ⟨i, List.mem_range.mpr (List.getElem?_eq_some_iff.mp h).1, ?_⟩
    rw [h]
theorem LH.has {ls : Array Slot} {lo : LO} (h : LH ls lo) : lv_has ls lo.length (alo lo) := ⟨h.1, h.2.1, fun q hq => h.2.2 q.1 q.2 (alo_mem.mp hq)⟩
theorem LH.at {ls : Array Slot} {lo : LO} (h : LH ls lo) {i : Nat} {v : Value} (hi : lo[i]? = some (some v)) : ls[i]? = some (.val v) := h.2.2 i v hi
theorem clr_len (lo : LO) (i : Nat) : (clr lo i).length = lo.length := by
  unfold clr
  split
  · rfl
  · split <;> simp
theorem clr_get {lo : LO} {i j : Nat} {w : Value} (h : (clr lo i)[j]? = some (some w)) : lo[j]? = some (some w) ∧ ¬ (j + 1 = i ∧ w.category = 2) := by
  unfold clr at h
  split at h
  · exact ⟨h, fun q => by omega⟩
  · rename_i k
    split at h
    · rename_i hc
      by_cases hjk : j = k
      · subst hjk
        by_cases hl : j < lo.length
        · rw [List.getElem?_set_self hl] at h
          cases h
        · rw [List.getElem?_eq_none (by simpa using hl)] at h
          cases h
      · rw [List.getElem?_set_ne (Ne.symm hjk)] at h
        exact ⟨h, fun q => hjk (by omega)⟩
    · rename_i hc
      refine ⟨h, fun q => ?_⟩
      have : j = k := by omega
      subst this
      apply hc
      unfold catAt
      rw [h]
      exact q.2
theorem LH.of1 {ls' : Array Slot} {lo : LO} {i : Nat} {v : Value} (h : lv_has ls' lo.length ((i, v) :: (alo lo).filter (fun q => !(q.1 == i) && !(q.1 + 1 == i && q.2.category == 2)))) : LH ls' (st1 lo i v) := by
  refine ⟨by unfold st1; rw [List.length_set, clr_len]; exact h.1, h.2.1, fun j w hj => ?_⟩
  unfold st1 at hj
  by_cases hji : j = i
  · subst hji
    have hl := (List.getElem?_eq_some_iff.mp hj).1
    rw [List.length_set] at hl
    rw [List.getElem?_set_self hl] at hj
    cases hj
    exact h.2.2 (j, v) List.mem_cons_self
  · rw [List.getElem?_set_ne (Ne.symm hji)] at hj
    obtain ⟨h1, h2⟩ := clr_get hj
    refine h.2.2 (j, w) (List.mem_cons_of_mem _ (List.mem_filter.mpr ⟨alo_mem.mpr h1, ?_⟩))
    simp only [Bool.and_eq_true, Bool.not_eq_true', beq_eq_false_iff_ne, Bool.and_eq_false_iff, beq_iff_eq]
    refine ⟨hji, ?_⟩
    by_cases q : j + 1 = i
    · exact Or.inr (fun z => h2 ⟨q, z⟩)
    · exact Or.inl q
theorem LH.of2 {ls' : Array Slot} {lo : LO} {i : Nat} {v : Value} (h : lv_has ls' lo.length ((i, v) :: (alo lo).filter (fun q => !(q.1 == i) && (!(q.1 == i + 1) && !(q.1 + 1 == i && q.2.category == 2))))) : LH ls' (st2 lo i v) := by
  refine ⟨by unfold st2; rw [List.length_set, List.length_set, clr_len]; exact h.1, h.2.1, fun j w hj => ?_⟩
  unfold st2 at hj
  by_cases hj1 : j = i + 1
  · subst hj1
    have hl := (List.getElem?_eq_some_iff.mp hj).1
    rw [List.length_set] at hl
    rw [List.getElem?_set_self hl] at hj
    cases hj
  · rw [List.getElem?_set_ne (Ne.symm hj1)] at hj
    by_cases hji : j = i
    · subst hji
      have hl := (List.getElem?_eq_some_iff.mp hj).1
      rw [List.length_set] at hl
      rw [List.getElem?_set_self hl] at hj
      cases hj
      exact h.2.2 (j, v) List.mem_cons_self
    · rw [List.getElem?_set_ne (Ne.symm hji)] at hj
      obtain ⟨h1, h2⟩ := clr_get hj
      refine h.2.2 (j, w) (List.mem_cons_of_mem _ (List.mem_filter.mpr ⟨alo_mem.mpr h1, ?_⟩))
      simp only [Bool.and_eq_true, Bool.not_eq_true', beq_eq_false_iff_ne, Bool.and_eq_false_iff, beq_iff_eq]
      refine ⟨hji, hj1, ?_⟩
      by_cases q : j + 1 = i
      · exact Or.inr (fun z => h2 ⟨q, z⟩)
      · exact Or.inl q
/-- the locals at a method's entry -/
def ent (vs : List Value) (n : Nat) : LO := vs.flatMap (fun v => if v.category = 2 then [some v, none] else [some v]) ++ List.replicate (n - (vs.flatMap (fun v => if v.category = 2 then [some v, none] else [some v])).length) none
def evs (vs : List Value) : LO := vs.flatMap (fun v => if v.category = 2 then [some v, none] else [some v])
theorem evs_len (vs : List Value) : (evs vs).length = (lg_sl vs).length := by
  induction vs with
  | nil => rfl
  | cons v vs ih =>
    simp only [evs, lg_sl, List.flatMap_cons, List.length_append] at ih ⊢
    rw [ih]
    split <;> rfl
theorem evs_get (vs : List Value) : ∀ (i : Nat) (v : Value), (evs vs)[i]? = some (some v) → (lg_sl vs)[i]? = some (.val v) := by
  induction vs with
  | nil => intro i v h; simp [evs] at h
  | cons w vs ih =>
    intro i v h
    simp only [evs, lg_sl, List.flatMap_cons] at ih h ⊢
    by_cases hc : w.category = 2
    · rw [if_pos hc] at h ⊢
      match i with
      | 0 => simp at h ⊢; exact h
      | 1 => simp at h
      | i + 2 =>
        simp only [List.cons_append, List.nil_append, List.getElem?_cons_succ] at h ⊢
        exact ih i v h
    · rw [if_neg hc] at h ⊢
      match i with
      | 0 => simp at h ⊢; exact h
      | i + 1 =>
        simp only [List.cons_append, List.nil_append, List.getElem?_cons_succ] at h ⊢
        exact ih i v h
theorem LH.entry (vs : List Value) {n : Nat} (h : (evs vs).length ≤ n) : LH ((lg_sl vs ++ List.replicate (n - (lg_sl vs).length) Slot.unset).toArray) (ent vs n) := by
  have h0 := lv_entry vs (n := n) (by rw [← evs_len]; exact h)
  refine ⟨?_, h0.2.1, fun i v hv => ?_⟩
  · rw [h0.1]
    show n = (evs vs ++ List.replicate (n - (evs vs).length) none).length
    simp
    omega
  · have hv : (evs vs ++ List.replicate (n - (evs vs).length) none)[i]? = some (some v) := hv
    by_cases hi : i < (evs vs).length
    · rw [List.getElem?_append_left hi] at hv
      have := evs_get vs i v hv
      rw [List.getElem?_toArray, List.getElem?_append_left (by rw [← evs_len]; exact hi)]
      exact this
    · rw [List.getElem?_append_right (by omega)] at hv
      have := List.mem_of_getElem? hv
      rw [List.mem_replicate] at this
      cases this.2
