/-! THE MODEL'S RESOLVE -/
/-- a call is good: its function is there and takes as many -/
def gdB (Fn : List FE) (x : Tok) : Bool := decide (nix (fnm Fn) x.2.1 < Fn.length ∧ (Fn.getD (nix (fnm Fn) x.2.1) (0, 0, 0, 0, 0)).2.2.1 = x.2.2.1)
def rsO (hf : Nat) (Fn : List FE) (O : Nat → Od) (x : Tok) : Nat → Od :=
  if gdB Fn x = true then (if nI (O x.1).1 = 9 then oup O x.1 ((O x.1).1, 12 * (1 - hf) + nix (fnm Fn) x.2.1, (O x.1).2.2) else if nI (O x.1).1 = 11 then oup O x.1 ((O x.1).1, (O x.1).2.1, 12 * (1 - hf) + nix (fnm Fn) x.2.1, (O x.1).2.2.2) else O) else O
def oI : Option Nat → Int32
  | none => -1
  | some y => nI y
def bst (Fn : List FE) (m : Option Nat) (x : Tok) : Option Nat := if gdB Fn x = true then m else match m with
  | none => some x.2.2.2
  | some y => some (if y ≤ x.2.2.2 then y else x.2.2.2)
section RSM
variable {l : Launch} {E : EN} {w : MO} {d : Nat} {ch : Nat → Nat} {n hf : Nat} {s00 : MS} {p o c : Nat} {vs : List Nat} {B : List Tok} {Bl : List BE} {Fn : List FE} {Q : Option Value → MS → Prop}
theorem rs_4 (hst : l.stackTraces = false) (hc : c ≤ 4000) (hB : B.length ≤ 800) (hF1 : ∀ u ∈ fnm Fn, u < 2 ^ 50) (hF2 : ∀ F ∈ Fn, F.2.2.1 < 2 ^ 31) (hB1 : ∀ x ∈ B, x.2.1 < 2 ^ 50 ∧ x.2.2.1 < 2 ^ 31 ∧ x.2.2.2 < 2 ^ 31) :
    ∀ (B2 B1 : List Tok) (m : Option Nat) (O : Nat → Od) (s : MS), B = B1 ++ B2 → (∀ y, m = some y → y < 2 ^ 31) → mT0 ch n hf s00 (((p, o), vs, O, c, B), Bl, Fn) s → (∀ s', B2.foldl (bst Fn) m = none → mT0 ch n hf s00 (((p, o), vs, B2.foldl (rsO hf Fn) O, c, B), Bl, Fn) s' → Q none s') → (∀ y s', B2.foldl (bst Fn) m = some y → mTF hf s00 6 y s' → Q none s') → ExM l E w (d + 1) MX10_resolve 4 [some (.ref w.1), some (.int (oI m)), some (.int (nI B1.length)), none, none, none] [] s Q := by
  intro B2
  induction B2 with
  | nil =>
    intro B1 m O s eB hm h hk hb
    have e86 : s.1 86 = nI B1.length := by
      have e : s.1 86 = nI B.length := h.x.2.2.2.2.2.1.1
      rw [eB, List.append_nil] at e; exact e
    have hl : B1.length ≤ 800 := by rw [eB, List.append_nil] at hB; exact hB
    have h66 := h.x.2.2.1.1
    refine vX10_resolve_4 (pk_le B1.length B1.length (fun _ => ?_) (fun z => absurd z (Nat.lt_irrefl _)) e86 rfl (by omega) (by omega))
    cases m with
    | none => exact ⟨fun _ => hk s rfl h, fun z => absurd (by decide) z⟩
    | some y => exact ⟨fun z => absurd z (nI_pos (hm y rfl)), fun _ => M_breaks hst h66 ⟨rfl, hb y _ rfl ⟨h.ft.trans (mfT.ofX ((mfX.sI _ _ 66 _).trans (mfX.sI _ _ 67 _))), rfl, rfl⟩⟩⟩
  | cons x B2 ih =>
    intro B1 m O s eB hm h hk hb
    have hlen : B.length = B1.length + (B2.length + 1) := by rw [eB, List.length_append]; rfl
    have ex : B.getD B1.length (0, 0, 0, 0) = x := by rw [eB, List.getD_eq_getElem?_getD, List.getElem?_append_right (Nat.le_refl _), Nat.sub_self]; rfl
    have hxB : x ∈ B := by rw [eB]; exact List.mem_append_right _ List.mem_cons_self
    obtain ⟨x1, x2, hp⟩ := hB1 x hxB
    have e86 : s.1 86 = nI B.length := h.x.2.2.2.2.2.1.1
    have g : s.2.2.1 87 B1.length = nI (B.getD B1.length (0, 0, 0, 0)).1 ∧ s.2.2.2 90 B1.length = lN (B.getD B1.length (0, 0, 0, 0)).2.1 ∧ s.2.2.1 89 B1.length = nI (B.getD B1.length (0, 0, 0, 0)).2.2.1 ∧ s.2.2.1 88 B1.length = nI (B.getD B1.length (0, 0, 0, 0)).2.2.2 := h.x.2.2.2.2.2.1.2.1 B1.length (by show B1.length < B.length; omega)
    rw [ex] at g
    obtain ⟨g1, g2, g3, g4⟩ := g
    obtain ⟨b1, b2⟩ := h.x.bo.1 x hxB
    have hh := h.x.1.2.2.2.1
    have h69 : s.1 69 = nI hf := h.x.1.2.2.1
    have h72 : s.1 72 = nI Fn.length := h.fn.1
    have hF12 := h.fn.2.1
    have hlF : (fnm Fn).length = Fn.length := List.length_map ..
    have hI : inB (nI B1.length) 800 := inB_n (by omega)
    have hI2 : inB (nI x.1) 8000 := inB_n (by omega)
    have e80 : s.2.2.1 80 x.1 = nI (O x.1).1 := (h.x.2.2.2.2.1.2 x.1 b1 b2).1
    have nxt : ∀ (m' : Option Nat) (O' : Nat → Od) (s' : MS), m' = bst Fn m x → O' = rsO hf Fn O x → mT0 ch n hf s00 (((p, o), vs, O', c, B), Bl, Fn) s' → ExM l E w (d + 1) MX10_resolve 4 [some (.ref w.1), some (.int (oI m')), some (.int (nI B1.length + 1)), none, none, none] [] s' Q := by
      intro m' O' s' e1 e2 h'
      subst e1
      subst e2
      rw [← nI_succ]
      have hm' : ∀ y, bst Fn m x = some y → y < 2 ^ 31 := by
        intro y hy
        unfold bst at hy
        split at hy
        · exact hm y hy
        · cases m with
          | none => cases hy; exact hp
          | some z => have := hm z rfl; cases hy; split <;> omega
      have := ih (B1 ++ [x]) (bst Fn m x) (rsO hf Fn O x) s' (by rw [eB, List.append_assoc]; rfl) hm' h' hk hb
      rw [List.length_append] at this
      exact this
    have hBad : ¬ gdB Fn x = true → ∀ a3 : Int32, (oI m < 0 → (inB (nI B1.length) 800 ∧ (∀ y1 : Int32, y1 = (s.2.2.1 88 (nI B1.length).toNatClampNeg) → ExM l E w (d + 1) MX10_resolve 112 [some (.ref w.1), some (.int y1), some (.int (nI B1.length)), some (.int a3), none, some (.int 0)] [] s Q))) ∧ (¬ oI m < 0 → (inB (nI B1.length) 800 ∧ ((oI m ≤ (s.2.2.1 88 (nI B1.length).toNatClampNeg) → ExM l E w (d + 1) MX10_resolve 112 [some (.ref w.1), some (.int (oI m)), some (.int (nI B1.length)), some (.int a3), none, some (.int 0)] [] s Q) ∧ (¬ oI m ≤ (s.2.2.1 88 (nI B1.length).toNatClampNeg) → (inB (nI B1.length) 800 ∧ (∀ y2 : Int32, y2 = (s.2.2.1 88 (nI B1.length).toNatClampNeg) → ExM l E w (d + 1) MX10_resolve 112 [some (.ref w.1), some (.int y2), some (.int (nI B1.length)), some (.int a3), none, some (.int 0)] [] s Q)))))) := by
      intro hg a3
      rw [nI_clamp (by omega), g4]
      have n0 : ∀ m', m' = bst Fn m x → ExM l E w (d + 1) MX10_resolve 112 [some (.ref w.1), some (.int (oI m')), some (.int (nI B1.length)), some (.int a3), none, some (.int 0)] [] s Q := fun m' e => vX10_resolve_112 ⟨fun _ => ⟨fun _ => nxt m' O s e (by unfold rsO; rw [if_neg hg]) h, fun z => absurd rfl z⟩, fun z => absurd rfl z⟩
      cases m with
      | none => exact ⟨fun _ => ⟨hI, fun y1 e1 => by subst e1; exact n0 (some x.2.2.2) (if_neg hg).symm⟩, fun z => absurd (by decide) z⟩
      | some y =>
        have eb : bst Fn (some y) x = some (if y ≤ x.2.2.2 then y else x.2.2.2) := if_neg hg
        exact ⟨fun z => absurd z (nI_pos (hm y rfl)), fun _ => ⟨hI, pk_le y x.2.2.2 (fun q => n0 (some y) (by rw [eb, if_pos q])) (fun q => ⟨hI, fun y2 e2 => by subst e2; exact n0 (some x.2.2.2) (by rw [eb, if_neg (by omega)])⟩) rfl rfl (hm y rfl) hp⟩⟩
    have hGood : gdB Fn x = true → ExM l E w (d + 1) MX10_resolve 112 [some (.ref w.1), some (.int (oI m)), some (.int (nI B1.length)), some (.int (nI (12 * (1 - hf) + nix (fnm Fn) x.2.1))), none, some (.int 1)] [] s Q := by
      intro hg
      have em : m = bst Fn m x := (if_pos hg).symm
      refine vX10_resolve_112 ?_
      rw [nI_clamp (show B1.length < 2 ^ 31 by omega), g1, nI_clamp (show x.1 < 2 ^ 31 by omega), e80]
      refine ⟨fun z => absurd z (by decide), fun _ => ⟨hI, hI2, fun q9 => ⟨fun z => absurd z (by decide), fun _ => ⟨hI, hI2, fun q11 => nxt m O s em (by unfold rsO; rw [if_pos hg, if_neg q9, if_neg q11]) h, fun q11 => ⟨hI, hI2, nxt m _ _ em (by unfold rsO; rw [if_pos hg, if_neg q9, if_pos q11]) (h.of (h.x.pb b1 b2 hc (fun z => by rw [z] at q11; exact absurd q11 (by decide))))⟩⟩⟩, fun q9 => ⟨hI, hI2, fun z => absurd z (by decide), fun _ => ⟨hI, hI2, fun q11 => nxt m _ _ em (by unfold rsO; rw [if_pos hg, if_pos q9]) (h.of (h.x.pa b1 b2 hc (fun z => by rw [z] at q9; exact absurd q9 (by decide)) (fun z => by rw [z] at q9; exact absurd q9 (by decide)))), fun q11 => absurd (q9.symm.trans q11) (by decide)⟩⟩⟩⟩
    obtain ⟨k1, k2, k3⟩ := nix_is (fnm Fn) x.2.1
    rw [hlF] at k1 k3
    have hnb : ∀ i, i < Fn.length → (fnm Fn).getD i 0 < 2 ^ 50 := fun i hi => hF1 _ (getD_mem 0 (by rw [hlF]; exact hi))
    have hnm : ∀ i, i < Fn.length → (Fn.getD i (0, 0, 0, 0, 0)).1 = (fnm Fn).getD i 0 := fun i _ => (fnm_getD Fn i).symm
    have fin : ExM l E w (d + 1) MX10_resolve 30 [some (.ref w.1), some (.int (oI m)), some (.int (nI B1.length)), some (.int (nI (12 * (1 - hf) + nix (fnm Fn) x.2.1))), some (.int (nI (12 * (1 - hf) + Fn.length))), none] [] s Q := by
      by_cases e : nix (fnm Fn) x.2.1 = Fn.length
      · have hg : ¬ gdB Fn x = true := fun z => by
          have := (of_decide_eq_true z).1; omega
        exact vX10_resolve_30 (pk_le (12 * (1 - hf) + Fn.length) (12 * (1 - hf) + nix (fnm Fn) x.2.1) (fun _ => pk_le (12 * (1 - hf) + Fn.length) (12 * (1 - hf) + nix (fnm Fn) x.2.1) (fun _ => hBad hg _) (fun z => absurd z (by omega)) rfl rfl (by omega) (by omega)) (fun z => absurd z (by omega)) rfl rfl (by omega) (by omega))
      · have hlt : nix (fnm Fn) x.2.1 < Fn.length := by omega
        have hJ : inB (nI (12 * (1 - hf) + nix (fnm Fn) x.2.1)) 24 := inB_n (by omega)
        obtain ⟨q1, q2, q3, q4, q5⟩ := h.fn.2.2 _ hlt
        have q1' : s.2.2.2 73 (12 * (1 - hf) + nix (fnm Fn) x.2.1) = lN (Fn.getD (nix (fnm Fn) x.2.1) (0, 0, 0, 0, 0)).1 := q1
        have q3' : s.2.2.1 75 (12 * (1 - hf) + nix (fnm Fn) x.2.1) = nI (Fn.getD (nix (fnm Fn) x.2.1) (0, 0, 0, 0, 0)).2.2.1 := q3
        have hpa : (Fn.getD (nix (fnm Fn) x.2.1) (0, 0, 0, 0, 0)).2.2.1 < 2 ^ 31 := hF2 _ (getD_mem _ hlt)
        refine vX10_resolve_30 (pk_le (12 * (1 - hf) + Fn.length) (12 * (1 - hf) + nix (fnm Fn) x.2.1) (fun z => absurd z (by omega)) (fun _ => ⟨hJ, hI, ?_⟩) rfl rfl (by omega) (by omega))
        rw [nI_clamp (show 12 * (1 - hf) + nix (fnm Fn) x.2.1 < 2 ^ 31 by omega), q1', q3', hnm _ hlt, k3 hlt]
        have eC : lg_cmp (lN x.2.1) (s.2.2.2 90 (nI B1.length).toNatClampNeg) = 0 := by rw [nI_clamp (by omega), g2]; exact (lN_cmp x1 x1).mpr rfl
        refine ⟨fun _ => pk_le (12 * (1 - hf) + Fn.length) (12 * (1 - hf) + nix (fnm Fn) x.2.1) (fun z => absurd z (by omega)) (fun _ => ⟨hJ, hI, bn_eq (Fn.getD (nix (fnm Fn) x.2.1) (0, 0, 0, 0, 0)).2.2.1 x.2.2.1 (fun z => hBad (fun y => z (of_decide_eq_true y).2) _) (fun z => hGood (decide_eq_true ⟨hlt, z⟩)) rfl (by rw [nI_clamp (by omega)]; exact g3) hpa x2⟩) rfl rfl (by omega) (by omega), fun z => absurd eC z⟩
    have main : ∀ j i, nix (fnm Fn) x.2.1 - i ≤ j → i ≤ nix (fnm Fn) x.2.1 → ExM l E w (d + 1) MX10_resolve 30 [some (.ref w.1), some (.int (oI m)), some (.int (nI B1.length)), some (.int (nI (12 * (1 - hf) + i))), some (.int (nI (12 * (1 - hf) + Fn.length))), none] [] s Q := by
      intro j
      induction j with
      | zero =>
        intro i i1 i2
        have e : i = nix (fnm Fn) x.2.1 := by omega
        rw [e]; exact fin
      | succ j ihj =>
        intro i i1 i2
        by_cases e : i = nix (fnm Fn) x.2.1
        · rw [e]; exact fin
        · have hlt : i < Fn.length := by omega
          have hJ : inB (nI (12 * (1 - hf) + i)) 24 := inB_n (by omega)
          have q1' : s.2.2.2 73 (12 * (1 - hf) + i) = lN (Fn.getD i (0, 0, 0, 0, 0)).1 := (h.fn.2.2 i hlt).1
          refine vX10_resolve_30 (pk_le (12 * (1 - hf) + Fn.length) (12 * (1 - hf) + i) (fun z => absurd z (by omega)) (fun _ => ⟨hJ, hI, ?_⟩) rfl rfl (by omega) (by omega))
          have eC : ¬ lg_cmp (s.2.2.2 73 (nI (12 * (1 - hf) + i)).toNatClampNeg) (s.2.2.2 90 (nI B1.length).toNatClampNeg) = 0 := by
            rw [nI_clamp (by omega), nI_clamp (by omega), g2, q1', hnm _ hlt]
            exact fun z => k2 i (by omega) ((lN_cmp (hnb i hlt) x1).mp z)
          refine ⟨fun z => absurd z eC, fun _ => ?_⟩
          rw [← nI_succ]
          exact ihj (i + 1) (by omega) (by omega)
    have e12 : (12 : Int32) * (1 - nI hf) = nI (12 * (1 - hf)) := by
      rcases (show hf = 0 ∨ hf = 1 by omega) with e | e <;> rw [e] <;> decide
    refine vX10_resolve_4 (pk_le B.length B1.length (fun z => absurd z (by omega)) (fun _ y2 ey2 y3 ey3 => ?_) e86 rfl (by omega) (by omega))
    rw [h69, e12] at ey2
    subst ey2
    rw [h72, nI_add] at ey3
    subst ey3
    exact main _ 0 (Nat.le_refl _) (Nat.zero_le _)
theorem M_resolve (hst : l.stackTraces = false) {O : Nat → Od} {s : MS} (hc : c ≤ 4000) (hB : B.length ≤ 800) (hF1 : ∀ u ∈ fnm Fn, u < 2 ^ 50) (hF2 : ∀ F ∈ Fn, F.2.2.1 < 2 ^ 31) (hB1 : ∀ x ∈ B, x.2.1 < 2 ^ 50 ∧ x.2.2.1 < 2 ^ 31 ∧ x.2.2.2 < 2 ^ 31) (h : mT0 ch n hf s00 (((p, o), vs, O, c, B), Bl, Fn) s)
    (hk : ∀ s', B.foldl (bst Fn) none = none → mT0 ch n hf s00 (((p, o), vs, B.foldl (rsO hf Fn) O, c, B), Bl, Fn) s' → Q none s') (hb : ∀ y s', B.foldl (bst Fn) none = some y → mTF hf s00 6 y s' → Q none s') : EvM l E w (d + 1) MX10_resolve [.ref w.1] s Q :=
  eX10_resolve hst (rs_4 hst hc hB hF1 hF2 hB1 B [] none O s rfl (fun y hy => by cases hy) h hk hb)
end RSM
/-- none is bad, or the least place of a bad one -/
theorem bst_spec {Fn : List FE} : ∀ (B : List Tok) (m : Option Nat), (B.foldl (bst Fn) m = none → m = none ∧ ∀ x ∈ B, gdB Fn x = true) ∧ ∀ y, B.foldl (bst Fn) m = some y → (m = some y ∨ ∃ x ∈ B, ¬ gdB Fn x = true ∧ x.2.2.2 = y) ∧ (∀ z, m = some z → y ≤ z) ∧ ∀ x ∈ B, ¬ gdB Fn x = true → y ≤ x.2.2.2
  | [], m => ⟨fun h => ⟨h, fun x hx => absurd hx List.not_mem_nil⟩, fun y h => ⟨Or.inl h, fun z hz => by have e : some y = some z := h.symm.trans hz; cases e; exact Nat.le_refl _, fun x hx => absurd hx List.not_mem_nil⟩⟩
  | x :: B, m => by
    obtain ⟨i1, i2⟩ := bst_spec B (bst Fn m x)
    by_cases hg : gdB Fn x = true
    · have e : bst Fn m x = m := if_pos hg
      rw [e] at i1 i2
      have e2 : (x :: B).foldl (bst Fn) m = B.foldl (bst Fn) m := by show B.foldl (bst Fn) (bst Fn m x) = _; rw [e]
      rw [e2]
      refine ⟨fun h => ⟨(i1 h).1, fun y hy => ?_⟩, fun y h => ?_⟩
      · rcases List.mem_cons.mp hy with r | r
        · rw [r]; exact hg
        · exact (i1 h).2 y r
      · obtain ⟨j1, j2, j3⟩ := i2 y h
        refine ⟨j1.elim Or.inl (fun ⟨u, u1, u2⟩ => Or.inr ⟨u, List.mem_cons_of_mem _ u1, u2⟩), j2, fun u hu hb => ?_⟩
        rcases List.mem_cons.mp hu with r | r
        · rw [r] at hb; exact absurd hg hb
        · exact j3 u r hb
    · obtain ⟨y0, e0, e1, e2, e3⟩ : ∃ y0, bst Fn m x = some y0 ∧ (m = some y0 ∨ x.2.2.2 = y0) ∧ (∀ z, m = some z → y0 ≤ z) ∧ y0 ≤ x.2.2.2 := by
        cases m with
        | none => exact ⟨x.2.2.2, if_neg hg, Or.inr rfl, fun z hz => (by cases hz), Nat.le_refl _⟩
        | some z =>
          refine ⟨if z ≤ x.2.2.2 then z else x.2.2.2, if_neg hg, ?_, fun q hq => ?_, ?_⟩
          · by_cases q : z ≤ x.2.2.2
            · rw [if_pos q]; exact Or.inl rfl
            · rw [if_neg q]; exact Or.inr rfl
          · cases hq
            split <;> omega
          · split <;> omega
      rw [e0] at i1 i2
      have e4 : (x :: B).foldl (bst Fn) m = B.foldl (bst Fn) (some y0) := by show B.foldl (bst Fn) (bst Fn m x) = _; rw [e0]
      rw [e4]
      refine ⟨fun h => absurd (i1 h).1 (by intro z; cases z), fun y h => ?_⟩
      obtain ⟨j1, j2, j3⟩ := i2 y h
      have l0 := j2 y0 rfl
      refine ⟨?_, fun z hz => Nat.le_trans l0 (e2 z hz), fun u hu hb => ?_⟩
      · rcases j1 with j1 | ⟨u, u1, u2⟩
        · cases j1
          exact e1.elim Or.inl (fun q => Or.inr ⟨x, List.mem_cons_self, hg, q⟩)
        · exact Or.inr ⟨u, List.mem_cons_of_mem _ u1, u2⟩
      · rcases List.mem_cons.mp hu with r | r
        · rw [r]; omega
        · exact j3 u r hb
/-- the same, told by the orders' numbers themselves -/
def rsT (hf : Nat) (Fn : List FE) (O : Nat → Od) (x : Tok) : Nat → Od :=
  if gdB Fn x = true then (if (O x.1).1 = 9 then oup O x.1 ((O x.1).1, 12 * (1 - hf) + nix (fnm Fn) x.2.1, (O x.1).2.2) else if (O x.1).1 = 11 then oup O x.1 ((O x.1).1, (O x.1).2.1, 12 * (1 - hf) + nix (fnm Fn) x.2.1, (O x.1).2.2.2) else O) else O
theorem oAg.rf (x : Od) : oAg x x := ⟨rfl, fun _ => rfl, fun _ => rfl, rfl⟩
theorem oAg.trans {x y z : Od} (h : oAg x y) (k : oAg y z) : oAg x z := ⟨k.1.trans h.1, fun q => (k.2.1 (by rw [h.1]; exact q)).trans (h.2.1 q), fun q => (k.2.2.1 (by rw [h.1]; exact q)).trans (h.2.2.1 q), k.2.2.2.trans h.2.2.2⟩
theorem rsT_ne {hf : Nat} {Fn : List FE} (O : Nat → Od) (x : Tok) {i : Nat} (h : ¬ i = x.1) : rsT hf Fn O x i = O i := by
  unfold rsT
  split
  · split
    · exact oup_ne _ _ h
    · split
      · exact oup_ne _ _ h
      · rfl
  · rfl
theorem rsO_ne {hf : Nat} {Fn : List FE} (O : Nat → Od) (x : Tok) {i : Nat} (h : ¬ i = x.1) : rsO hf Fn O x i = O i := by
  unfold rsO
  split
  · split
    · exact oup_ne _ _ h
    · split
      · exact oup_ne _ _ h
      · rfl
  · rfl
theorem rsT_at {hf : Nat} {Fn : List FE} (O : Nat → Od) (x : Tok) (hg : gdB Fn x = true) : ((rsT hf Fn O x x.1).1 = 9 → (rsT hf Fn O x x.1).2.1 = 12 * (1 - hf) + nix (fnm Fn) x.2.1) ∧ ((rsT hf Fn O x x.1).1 = 11 → (rsT hf Fn O x x.1).2.2.1 = 12 * (1 - hf) + nix (fnm Fn) x.2.1) := by
  unfold rsT
  rw [if_pos hg]
  by_cases e9 : (O x.1).1 = 9
  · rw [if_pos e9, oup_at]
    exact ⟨fun _ => rfl, fun z => by have z' : (O x.1).1 = 11 := z; omega⟩
  · rw [if_neg e9]
    by_cases e11 : (O x.1).1 = 11
    · rw [if_pos e11, oup_at]
      exact ⟨fun z => absurd z e9, fun _ => rfl⟩
    · rw [if_neg e11]
      exact ⟨fun z => absurd z e9, fun z => absurd z e11⟩
theorem rsT_ag {hf : Nat} {Fn : List FE} (O : Nat → Od) (x : Tok) (i : Nat) : oAg (O i) (rsT hf Fn O x i) := by
  by_cases e : i = x.1
  · subst e
    unfold rsT
    split
    · split
      · rename_i q
        rw [oup_at]
        exact ⟨rfl, fun z => absurd q z, fun _ => rfl, rfl⟩
      · split
        · rename_i q
          rw [oup_at]
          exact ⟨rfl, fun _ => rfl, fun z => absurd q z, rfl⟩
        · exact oAg.rf _
    · exact oAg.rf _
  · rw [rsT_ne _ _ e]; exact oAg.rf _
theorem rsOT {hf : Nat} {Fn : List FE} {O O' : Nat → Od} (x : Tok) {i : Nat} (h : O i = O' i) (hs : (O i).1 < 2 ^ 31) : rsO hf Fn O x i = rsT hf Fn O' x i := by
  by_cases e : i = x.1
  · subst e
    have e9 : nI (O x.1).1 = 9 ↔ (O' x.1).1 = 9 := by rw [← h]; exact nI_eq (b := 9) hs (by omega)
    have e11 : nI (O x.1).1 = 11 ↔ (O' x.1).1 = 11 := by rw [← h]; exact nI_eq (b := 11) hs (by omega)
    unfold rsO rsT
    by_cases hg : gdB Fn x = true
    · rw [if_pos hg, if_pos hg]
      by_cases q9 : (O' x.1).1 = 9
      · rw [if_pos q9, if_pos (e9.mpr q9), oup_at, oup_at, h]
      · rw [if_neg q9, if_neg (fun z => q9 (e9.mp z))]
        by_cases q11 : (O' x.1).1 = 11
        · rw [if_pos q11, if_pos (e11.mpr q11), oup_at, oup_at, h]
        · rw [if_neg q11, if_neg (fun z => q11 (e11.mp z))]; exact h
    · rw [if_neg hg, if_neg hg]; exact h
  · rw [rsO_ne _ _ e, rsT_ne _ _ e]; exact h
theorem fdT_ag {hf : Nat} {Fn : List FE} : ∀ (B : List Tok) (O : Nat → Od) (i : Nat), oAg (O i) (B.foldl (rsT hf Fn) O i)
  | [], O, i => oAg.rf _
  | x :: B, O, i => (rsT_ag O x i).trans (fdT_ag B (rsT hf Fn O x) i)
theorem fdOT {hf : Nat} {Fn : List FE} : ∀ (B : List Tok) (O O' : Nat → Od) (i : Nat), O i = O' i → (O i).1 < 2 ^ 31 → B.foldl (rsO hf Fn) O i = B.foldl (rsT hf Fn) O' i
  | [], O, O', i, h, _ => h
  | x :: B, O, O', i, h, hs => by
    have e := rsOT (hf := hf) (Fn := Fn) x h hs
    have e1 : (rsO hf Fn O x i).1 < 2 ^ 31 := by rw [e, (rsT_ag O' x i).1, ← h]; exact hs
    exact fdOT B _ _ i e e1
theorem fdT_ne {hf : Nat} {Fn : List FE} : ∀ (B : List Tok) (O : Nat → Od) (i : Nat), (∀ x ∈ B, ¬ i = x.1) → B.foldl (rsT hf Fn) O i = O i
  | [], O, i, _ => rfl
  | x :: B, O, i, h => (fdT_ne B (rsT hf Fn O x) i (fun y hy => h y (List.mem_cons_of_mem _ hy))).trans (rsT_ne O x (h x List.mem_cons_self))
theorem fdT_at {hf : Nat} {Fn : List FE} : ∀ (B : List Tok) (O : Nat → Od), (B.map (fun x => x.1)).Pairwise (· < ·) → ∀ x ∈ B, gdB Fn x = true → ((B.foldl (rsT hf Fn) O x.1).1 = 9 → (B.foldl (rsT hf Fn) O x.1).2.1 = 12 * (1 - hf) + nix (fnm Fn) x.2.1) ∧ ((B.foldl (rsT hf Fn) O x.1).1 = 11 → (B.foldl (rsT hf Fn) O x.1).2.2.1 = 12 * (1 - hf) + nix (fnm Fn) x.2.1)
  | [], O, _, x, hx, _ => absurd hx List.not_mem_nil
  | y :: B, O, hp, x, hx, hg => by
    have hp' : (y.1 :: B.map (fun x => x.1)).Pairwise (· < ·) := hp
    rw [List.pairwise_cons] at hp'
    show ((B.foldl (rsT hf Fn) (rsT hf Fn O y) x.1).1 = 9 → (B.foldl (rsT hf Fn) (rsT hf Fn O y) x.1).2.1 = _) ∧ ((B.foldl (rsT hf Fn) (rsT hf Fn O y) x.1).1 = 11 → (B.foldl (rsT hf Fn) (rsT hf Fn O y) x.1).2.2.1 = _)
    rcases List.mem_cons.mp hx with r | r
    · subst r
      rw [fdT_ne B (rsT hf Fn O x) x.1 (fun u hu e => by
        have := hp'.1 u.1 (List.mem_map.mpr ⟨u, hu, rfl⟩); omega)]
      exact rsT_at O x hg
    · exact fdT_at B (rsT hf Fn O y) hp'.2 x r hg
