/-! KINDS OF TROUBLE: 1 .. 8 of all orders -/
def zkd (r : Nat ⊕ Th) : Prop := ∀ k, r = .inl k → 1 ≤ k ∧ k ≤ 8
theorem zkd_l {k : Nat} (h : 1 ≤ k ∧ k ≤ 8) : zkd (.inl k) := fun j e => by cases e; exact h
theorem zkd_r (t : Th) : zkd (.inr t) := fun j e => by cases e
theorem zkd_i {c : Prop} {D : Decidable c} {a b : Nat ⊕ Th} (h1 : zkd a) (h2 : zkd b) : zkd (@ite _ c D a b) := by
  split
  · exact h1
  · exact h2
theorem zkd_mk (t : Th) : zkd (zmk t) := by
  unfold zmk
  split
  · exact zkd_l (by decide)
  · exact zkd_r _
theorem zkd_one (nt : Bool) (x : Th) : zkd (zone nt x) := by
  match x with
  | .leaf (.inl v) => exact zkd_r _
  | .leaf (.inr (.inl a)) => exact zkd_r _
  | .leaf (.inr (.inr a)) => exact zkd_r _
  | .branch _ _ _ => exact zkd_l (by decide)
theorem zkd_two (g : Int32) (x y : Th) : zkd (ztwo g x y) := by
  unfold ztwo
  split
  · unfold ztwoL
    repeat' split
    all_goals first | exact zkd_l (by decide) | exact zkd_r _
  · exact zkd_l (by decide)
theorem zkd_build (l : List Th) : zkd (zbuild l) := by
  unfold zbuild
  repeat' split
  all_goals first | exact zkd_l (by decide) | exact zkd_mk _
theorem zkd_index (x i : Th) : zkd (zindex x i) := by
  unfold zindex
  repeat' split
  all_goals first | exact zkd_l (by decide) | exact zkd_mk _ | exact zkd_r _
theorem zkd_each (x : Th) (l : List Th) : zkd (zeach x l) := by
  unfold zeach
  repeat' split
  all_goals first | exact zkd_mk _ | exact zkd_r _ | exact zkd_build _
theorem zkd_1 (b : Nat) (x : Th) : zkd (zbi1 b x) := by
  unfold zbi1
  repeat' (first | exact zkd_l (by decide) | exact zkd_mk _ | exact zkd_r _ | refine zkd_i ?_ ?_ | split)
theorem zkd_2 (b : Nat) (x y : Th) : zkd (zbi2 b x y) := by
  unfold zbi2 zjoin
  repeat' (first | exact zkd_l (by decide) | exact zkd_mk _ | exact zkd_r _ | refine zkd_i ?_ ?_ | split)
theorem zkd_bi (b : Nat) (l : List Th) : zkd (abi b l) := by
  unfold abi
  repeat' split
  all_goals first | exact zkd_l (by decide) | exact zkd_mk _ | exact zkd_1 _ _ | exact zkd_2 _ _ _
theorem zkd_pu1 (x i v : Th) : zkd (zpu1 x i v) := by
  intro k h
  by_cases hb : zk x = 0 ∨ zk i ≠ 0 ∨ (zk x = 1 ∧ zk v ≠ 0) ∨ (zk x = 2 ∧ zk v ≠ 1)
  · unfold zpu1 at h
    rw [zput1_bad hb] at h
    cases h
    decide
  · cases hz : zix (zv i) (zn x) with
    | none =>
      unfold zpu1 at h
      rw [zput1_no hb hz] at h
      cases h
      decide
    | some j =>
      rw [zpu1_ok hb hz] at h
      exact zkd_mk _ k h
theorem zkd_pu2 (x i j v : Th) : zkd (zpu2 x i j v) := by
  intro k h
  by_cases hb : zk x ≠ 2 ∨ zk i ≠ 0 ∨ zk j ≠ 0 ∨ zk v ≠ 0
  · unfold zpu2 at h
    rw [zput2_bad hb] at h
    cases h
    decide
  · cases hz : zix (zv i) (zn x) with
    | none =>
      unfold zpu2 at h
      rw [zput2_no hb hz] at h
      cases h
      decide
    | some q =>
      cases hz2 : zix (zv j) (zr (zel x q)).length with
      | none =>
        unfold zpu2 at h
        rw [zput2_no2 hb hz hz2] at h
        cases h
        decide
      | some p =>
        rw [(zput2_ok hb hz hz2).1] at h
        exact zkd_mk _ k h
/-- what has been asked is within the limits -/
theorem zw_zof {k : Nat} {l : List Th} (hk : k = 1 ∨ k = 2 ∨ k = 3) (hl : ∀ x ∈ l, ZW x) {t : Th} (h : zmk (zof k l) = .inr t) : ZW t := by
  unfold zmk at h
  split at h
  · cases h
  · rename_i hg
    cases h
    rcases hk with rfl | rfl | rfl
    · have hg : ¬ decide (64 < (l.map zv).length) = true := hg
      rw [decide_eq_true_eq] at hg
      show (l.map zv).length ≤ 64
      omega
    · have hg : ¬ (decide (20 < (l.map zr).length) || decide (200 < zis (l.map zr))) = true := hg
      simp only [Bool.or_eq_true, decide_eq_true_eq] at hg
      refine ⟨by omega, by omega, fun r hr => ?_⟩
      obtain ⟨x, hx, rfl⟩ := List.mem_map.mp hr
      have wx := hl x hx
      match x, wx with
      | .leaf (.inl v), _ => exact Nat.zero_le _
      | .leaf (.inr (.inl a)), h => exact h
      | .leaf (.inr (.inr a)), h => exact Nat.zero_le _
      | .branch _ _ _, _ => exact Nat.zero_le _
    · have hg : ¬ zgt (zP l) = true := hg
      have : zmk (zP l) = .inr (zP l) := by unfold zmk; rw [if_neg hg]
      exact (zmk_pack hl this).2
theorem zw_pu1 {x i v t : Th} (wx : ZW x) (wv : ZW v) (h : zpu1 x i v = .inr t) : ZW t ∧ ¬ zk t = 0 := by
  by_cases hb : zk x = 0 ∨ zk i ≠ 0 ∨ (zk x = 1 ∧ zk v ≠ 0) ∨ (zk x = 2 ∧ zk v ≠ 1)
  · unfold zpu1 at h
    rw [zput1_bad hb] at h
    cases h
  · cases hz : zix (zv i) (zn x) with
    | none =>
      unfold zpu1 at h
      rw [zput1_no hb hz] at h
      cases h
    | some j =>
      rw [zpu1_ok hb hz] at h
      have kx := zk_le x
      have hk : zk x = 1 ∨ zk x = 2 ∨ zk x = 3 := by omega
      refine ⟨zw_zof hk (fun y hy => ?_) h, ?_⟩
      · rcases List.mem_or_eq_of_mem_set hy with hy | rfl
        · obtain ⟨i, hi, e1⟩ := List.getElem_of_mem hy
          rw [← e1, ← getD_lt (zI 0) hi]
          exact zw_zel wx i
        · exact wv
      · unfold zmk at h
        split at h
        · cases h
        · cases h
          rcases hk with e | e | e <;> rw [e]
          · show ¬ 1 = 0; decide
          · show ¬ 2 = 0; decide
          · show ¬ 3 = 0; decide
theorem zw_pu2 {x i j v t : Th} (wx : ZW x) (h : zpu2 x i j v = .inr t) : ZW t ∧ ¬ zk t = 0 := by
  by_cases hb : zk x ≠ 2 ∨ zk i ≠ 0 ∨ zk j ≠ 0 ∨ zk v ≠ 0
  · unfold zpu2 at h
    rw [zput2_bad hb] at h
    cases h
  · cases hz : zix (zv i) (zn x) with
    | none =>
      unfold zpu2 at h
      rw [zput2_no hb hz] at h
      cases h
    | some q =>
      cases hz2 : zix (zv j) (zr (zel x q)).length with
      | none =>
        unfold zpu2 at h
        rw [zput2_no2 hb hz hz2] at h
        cases h
      | some p =>
        rw [(zput2_ok hb hz hz2).1] at h
        unfold zmk at h
        split at h
        · cases h
        · rename_i hg
          cases h
          refine ⟨?_, by show ¬ 2 = 0; decide⟩
          have hg : ¬ (decide (20 < ((zt x).set q ((zr (zel x q)).set p (zv v))).length) || decide (200 < zis ((zt x).set q ((zr (zel x q)).set p (zv v))))) = true := hg
          simp only [Bool.or_eq_true, decide_eq_true_eq] at hg
          refine ⟨by omega, by omega, fun r hr => ?_⟩
          have k2 : zk x = 2 := Decidable.not_not.mp (fun z => hb (Or.inl z))
          obtain ⟨a, rfl⟩ : ∃ a, x = zT a := by
            match x, k2 with
            | .leaf (.inr (.inr a)), _ => exact ⟨a, rfl⟩
          rcases List.mem_or_eq_of_mem_set hr with hr | rfl
          · exact wx.2.2 r hr
          · rw [List.length_set]
            have := zw_zel wx q
            match zel (zT a) q, this with
            | .leaf (.inl v), _ => exact Nat.zero_le _
            | .leaf (.inr (.inl a)), h => exact h
            | .leaf (.inr (.inr a)), h => exact Nat.zero_le _
            | .branch _ _ _, _ => exact Nat.zero_le _
