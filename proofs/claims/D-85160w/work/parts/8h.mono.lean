/-! steps never go down -/
theorem afin_st (pc : Nat) (r : Nat ⊕ Th) (pl : List Th) (fr : List Fm) (wy : List Wy) (sh : Nat → Option Th) (ct : Ct) (out : List Int32) (place : Int32) : (afin pc r pl fr wy sh ct out place).2.2.2.2.2.1.1 = ct.1 := by
  unfold afin
  split
  · rfl
  · split <;> rfl
theorem aenter_st (P : Pg) (f n back : Nat) (pl : List Th) (fr : List Fm) (wy : List Wy) (sh : Nat → Option Th) (ct : Ct) (out : List Int32) (place : Int32) : (aenter P f n back pl fr wy sh ct out place).2.2.2.2.2.1.1 = ct.1 := by
  unfold aenter
  split <;> rfl
theorem aworks_st (P : Pg) (o : Od) (pc : Nat) (pl : List Th) (fr : List Fm) (wy : List Wy) (sh : Nat → Option Th) (ct : Ct) (out : List Int32) : (aworks P o pc pl fr wy sh ct out).2.2.2.2.2.1.1 = ct.1 := by
  unfold aworks
  dsimp only
  repeat' split
  all_goals first | exact afin_st .. | exact aenter_st .. | rfl
theorem anext_st (P : Pg) (fuel : Nat) (o : Od) (pc : Nat) (pl : List Th) (fr : List Fm) (wy : List Wy) (sh : Nat → Option Th) (ct : Ct) (out : List Int32) : ct.1 ≤ (anext P fuel o pc pl fr wy sh ct out).2.2.2.2.2.1.1 := by
  unfold anext
  repeat' split
  all_goals first | exact Nat.le_refl _ | exact Nat.le_succ _ | (rw [aenter_st]; exact Nat.le_succ _) | (rw [afin_st]; exact Nat.le_refl _)
theorem aputat_st (o : Od) (pc : Nat) (pl : List Th) (fr : List Fm) (wy : List Wy) (sh : Nat → Option Th) (ct : Ct) (out : List Int32) : (aputat o pc pl fr wy sh ct out).2.2.2.2.2.1.1 = ct.1 := by
  unfold aputat
  dsimp only
  repeat' split
  all_goals rfl
theorem afornext_st (fuel : Nat) (o : Od) (pc : Nat) (pl : List Th) (fr : List Fm) (wy : List Wy) (sh : Nat → Option Th) (ct : Ct) (out : List Int32) : ct.1 ≤ (afornext fuel o pc pl fr wy sh ct out).2.2.2.2.2.1.1 := by
  unfold afornext
  repeat' split
  all_goals first | exact Nat.le_refl _ | exact Nat.le_succ _
theorem st_ite {c : Prop} [Decidable c] {k : Nat} {a b : AS} (h1 : k ≤ a.2.2.2.2.2.1.1) (h2 : k ≤ b.2.2.2.2.2.1.1) : k ≤ (if c then a else b).2.2.2.2.2.1.1 := by
  split <;> assumption
theorem doA_mono (P : Pg) (fuel : Nat) (s : AS) : s.2.2.2.2.2.1.1 ≤ (doA P fuel s).2.2.2.2.2.1.1 := by
  obtain ⟨pc, pl, fr, wy, sh, ct, out, tr⟩ := s
  show ct.1 ≤ _
  unfold doA
  dsimp only
  repeat' first
    | (rw [aworks_st]; exact Nat.le_succ _)
    | exact anext_st ..
    | (rw [aputat_st]; exact Nat.le_refl _)
    | exact afornext_st ..
    | with_reducible exact Nat.le_refl _
    | with_reducible exact Nat.le_succ _
    | with_reducible refine st_ite ?_ ?_
    | exact Nat.le_refl _
    | exact Nat.le_succ _
    | split
theorem takeA_st (s : AS) : (takeA s).2.2.2.2.2.1.1 = s.2.2.2.2.2.1.1 := by
  obtain ⟨pc, pl, fr, wy, sh, ct, out, tr⟩ := s
  unfold takeA
  dsimp only
  repeat' split
  all_goals rfl
theorem stA_mono (P : Pg) (fuel : Nat) (s : AS) : s.2.2.2.2.2.1.1 ≤ (stA P fuel s).2.2.2.2.2.1.1 := by
  unfold stA
  split
  · exact doA_mono P fuel s
  · rw [takeA_st]; exact doA_mono P fuel s
theorem itA_mono (P : Pg) (fuel : Nat) : ∀ n s, s.2.2.2.2.2.1.1 ≤ (itA P fuel n s).2.2.2.2.2.1.1
  | 0, _ => Nat.le_refl _
  | n + 1, s => Nat.le_trans (stA_mono P fuel s) (itA_mono P fuel n (stA P fuel s))
theorem aRch.mono {P : Pg} {fuel : Nat} {s s' : AS} (h : aRch P fuel s s') : s.2.2.2.2.2.1.1 ≤ s'.2.2.2.2.2.1.1 := by
  obtain ⟨n, e, -⟩ := h
  rw [← e]
  exact itA_mono P fuel n s
