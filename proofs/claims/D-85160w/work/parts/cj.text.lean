/-! THE WHOLE TEXT, ON BOTH SIDES -/
section RD
variable (l : Launch) (E : EN) (w : CO) (wm : MO) (dt : Nat) (ch : Nat → Nat) (n hf x0 fa L K0 : Nat)
def rsB (c : Nat) (C : List CE) (Fn : List FE) : Prop := c ≤ 3900 ∧ (C.map toB).length ≤ 800 ∧ (∀ u ∈ fnm Fn, u < 2 ^ 50) ∧ (∀ F ∈ Fn, F.2.2.1 < 2 ^ 31) ∧ ∀ x ∈ C.map toB, x.2.1 < 2 ^ 50 ∧ x.2.2.1 < 2 ^ 31 ∧ x.2.2.2 < 2 ^ 31
/-- a text that is good -/
def rdFin (p : Nat) (vs : List Nat) (c : Nat) (O : Nat → Od) (C : List CE) (Fn : List FE) (s s' : CS) (f' : RH) : Prop :=
  ∃ (p' : Nat) (vs' : List Nat) (O' : Nat → Od) (c' ca' cap' : Nat) (A' : List (Nat × Nat × Nat)) (C' : List CE) (Fn' : List FE) (DL' EL' : Nat → Nat) (f1 : RH), rdS E w ch n hf x0 fa L K0 p' ca' cap' c' O' A' C' Fn' DL' EL' s' f1 ∧ (tk ch n p').1 = 0 ∧ cfP s s' ∧ (∀ s00, TT l E wm dt ch n hf s00 (((p, 0), vs, O, c, C.map toB), [], Fn) (((p', 0), vs', O', c', C'.map toB), [], Fn')) ∧ r9 f1 f' ∧ (∀ e ∈ C', gdB Fn' (toB e) = true) ∧ ∀ e ∈ C', vl f' e.1 178 = .ref (DL' (nix (fnm Fn') e.2.2.2.1))
def rdFail (p : Nat) (vs : List Nat) (c : Nat) (O : Nat → Od) (C : List CE) (Fn : List FE) (s s' : CS) (f' : RH) : Prop :=
  ∃ k pl, cFl s s' k pl ∧ f'.2.1 ≤ K0 ∧ (1 ≤ k ∧ k ≤ 6) ∧ (¬ (tk ch n p).1 = 0 ∨ ¬ C = []) ∧ ((∀ s00, TB0 l E wm dt ch n hf s00 (((p, 0), vs, O, c, C.map toB), [], Fn) k pl) ∨ (k = 6 ∧ ∃ (p' : Nat) (vs' : List Nat) (O' : Nat → Od) (c' : Nat) (C' : List CE) (Fn' : List FE), (tk ch n p').1 = 0 ∧ rsB c' C' Fn' ∧ (∀ s00, TT l E wm dt ch n hf s00 (((p, 0), vs, O, c, C.map toB), [], Fn) (((p', 0), vs', O', c', C'.map toB), [], Fn')) ∧ (C'.map toB).foldl (bst Fn') none = some pl))
end RD
section RD2
variable {l : Launch} {E : EN} {w : CO} {wm : MO} {dt d : Nat} {ch : Nat → Nat} {n hf p p' x0 fa L K0 ca cap c c' : Nat} {vs vs' : List Nat} {O O' : Nat → Od} {A : List (Nat × Nat × Nat)} {C C' : List CE} {Fn Fn' : List FE} {DL EL : Nat → Nat} {s s1 s' : CS} {f f' : RH} {Q : KO → CS → RH → Prop}
theorem rdFin.pre (h : rdFin l E w wm dt ch n hf x0 fa L K0 p' vs' c' O' C' Fn' s1 s' f') (hc : cfP s s1) (hT : ∀ s00, TT l E wm dt ch n hf s00 (((p, 0), vs, O, c, C.map toB), [], Fn) (((p', 0), vs', O', c', C'.map toB), [], Fn')) : rdFin l E w wm dt ch n hf x0 fa L K0 p vs c O C Fn s s' f' := by
  obtain ⟨p2, vs2, O2, c2, ca2, cap2, A2, C2, Fn2, DL2, EL2, f1, a1, a2, a3, a4, a5⟩ := h
  exact ⟨p2, vs2, O2, c2, ca2, cap2, A2, C2, Fn2, DL2, EL2, f1, a1, a2, hc.trans a3, fun s00 => (hT s00).trans (a4 s00), a5⟩
theorem rdFail.pre (h : rdFail l E wm dt ch n hf K0 p' vs' c' O' C' Fn' s1 s' f') (hc : cfP s s1) (hT : ∀ s00, TT l E wm dt ch n hf s00 (((p, 0), vs, O, c, C.map toB), [], Fn) (((p', 0), vs', O', c', C'.map toB), [], Fn')) (hn : ¬ (tk ch n p).1 = 0 ∨ ¬ C = []) : rdFail l E wm dt ch n hf K0 p vs c O C Fn s s' f' := by
  obtain ⟨k, pl, a1, a2, a3, -, a4⟩ := h
  refine ⟨k, pl, ⟨hc.trans a1.1, a1.2⟩, a2, a3, hn, ?_⟩
  rcases a4 with a4 | ⟨a4, p2, vs2, O2, c2, C2, Fn2, b1, b2, b3, b4⟩
  · exact Or.inl (fun s00 => (hT s00).bad (a4 s00))
  · exact Or.inr ⟨a4, p2, vs2, O2, c2, C2, Fn2, b1, b2, fun s00 => (hT s00).trans (b3 s00), b4⟩
theorem rdS.rsB (h : rdS E w ch n hf x0 fa L K0 p ca cap c O A C Fn DL EL s f) : rsB c C Fn := by
  obtain ⟨a1, a2, a3, a4, a5, a6, a7, a8⟩ := h
  have hp : p ≤ n := a1.1.2.1.2.1
  have k1 : ∀ k, k < Fn.length → (Fn.getD k (0, 0, 0, 0, 0)).1 < 27 ^ 8 := fun k hk => (a4 k hk).2.2.2.2.1
  have k2 : ∀ F ∈ Fn, F.2.2.1 < 2 ^ 31 := by
    intro F hF
    obtain ⟨i, hi, e⟩ := List.mem_iff_getElem.mp hF
    obtain ⟨-, -, -, -, -, -, -, bd, nv, -, -, -, b4, -⟩ := a4 i hi
    have e2 : Fn.getD i (0, 0, 0, 0, 0) = F := by rw [List.getD_eq_getElem?_getD, List.getElem?_eq_getElem hi]; exact e
    rw [e2] at b4; omega
  refine ⟨by omega, by rw [List.length_map]; omega, fun u hu => ?_, k2, fun x hx => ?_⟩
  · have := fnm_lt k1 u hu
    have h2 : (27 : Nat) ^ 8 < 2 ^ 50 := by decide
    omega
  · obtain ⟨e, he, rfl⟩ := List.mem_map.mp hx
    obtain ⟨-, -, -, -, -, -, b7, b8⟩ := a5.1 e he
    have h2 : (27 : Nat) ^ 8 < 2 ^ 50 := by decide
    have h3 : toA e ∈ A := a5.2.1.mem_iff.mpr (List.mem_map.mpr ⟨e, he, rfl⟩)
    have h4 : e.2.2.2.2 < p := (a5.2.2.2 _ h3).2
    show e.2.2.2.1 < 2 ^ 50 ∧ e.2.2.1 < 2 ^ 31 ∧ e.2.2.2.2 < 2 ^ 31
    omega
theorem rdS.fnT (h : rdS E w ch n hf x0 fa L K0 p ca cap c O A C Fn DL EL s f) : fnT w x0 fa Fn DL f := by
  obtain ⟨a1, a2, a3, a4, a5, a6, a7, a8⟩ := h
  refine ⟨⟨a2.1.1, a2.1.2.1, a3.2.2.2.2.2.1, a3.1, a3.2.1, a3.2.2.1⟩, a3.2.2.2.2.2.2, fun k hk => ?_⟩
  obtain ⟨b1, b2, b3, b4, b5, b6, b7, bd, nv, -, -, -, b8, -⟩ := a4 k hk
  exact ⟨b1, b3, b4, b5, b6, by omega⟩
theorem kw_ne {t : Tok} (h : kw t = 0) : ¬ t.1 = 0 := fun z => by
  unfold kw at h
  rw [if_neg (by omega)] at h
  exact absurd h (by decide)
theorem Tx_bad (hst : l.stackTraces = false) {B : List Tok} (hc : c < 3900) (hFb : ∀ u ∈ fnm Fn, u < 2 ^ 50) (hk : ¬ kw (tk ch n p) = 0) (hne : ¬ (tk ch n p).1 = 0) {k pl : Nat} (e1 : wk (tk ch n p) = k) (e2 : (tk ch n p).2.1 = pl) (s00 : MS) : TB0 l E wm dt ch n hf s00 (((p, 0), vs, O, c, B), [], Fn) k pl := by
  intro Q hQ s hs
  subst e1
  subst e2
  exact T_fn hst hs hne (by omega) hc hFb rfl rfl rfl (fun _ => hQ) (fun z => absurd z hk) (fun z => absurd z hk) (fun z => absurd z hk) (fun z => absurd z hk) (fun z => absurd z hk)
theorem R_read7 (hst : l.stackTraces = false) (hd : 260 ≤ d) : ∀ (m p ca cap c : Nat) (vs : List Nat) (O : Nat → Od) (A : List (Nat × Nat × Nat)) (C : List CE) (Fn : List FE) (DL EL : Nat → Nat) (s : CS) (f : RH), n - p ≤ m → rdS E w ch n hf x0 fa L K0 p ca cap c O A C Fn DL EL s f → f.2.2.2 ≤ L →
    (∀ s' f', rdFin l E w wm dt ch n hf x0 fa L K0 p vs c O C Fn s s' f' → Q (.inl none) s' f') → (∀ s' f', rdFail l E wm dt ch n hf K0 p vs c O C Fn s s' f' → Q (.inr 1) s' f') → ExC l E w (d + 1) MX11_read 7 [some (.ref x0), none] [] s f Q := by
  obtain ⟨d, rfl⟩ : ∃ d', d = d' + 5 := ⟨d - 5, by omega⟩
  have stp : ∀ (m p ca cap c : Nat) (vs : List Nat) (O : Nat → Od) (A : List (Nat × Nat × Nat)) (C : List CE) (Fn : List FE) (DL EL : Nat → Nat) (s : CS) (f : RH), n - p ≤ m → rdS E w ch n hf x0 fa L K0 p ca cap c O A C Fn DL EL s f → f.2.2.2 ≤ L →
      (∀ s' f', rdFin l E w wm dt ch n hf x0 fa L K0 p vs c O C Fn s s' f' → Q (.inl none) s' f') → (∀ s' f', rdFail l E wm dt ch n hf K0 p vs c O C Fn s s' f' → Q (.inr 1) s' f') →
      (∀ s1 f1, kw (tk ch n p) = 0 → rdOk l E w wm dt ch n hf x0 fa L K0 p vs c O C Fn s s1 f1 → ExC l E w (d + 5 + 1) MX11_read 7 [some (.ref x0), none] [] s1 f1 Q) → ExC l E w (d + 5 + 1) MX11_read 7 [some (.ref x0), none] [] s f Q := by
    intro m p ca cap c vs O A C Fn DL EL s f hm h hL hok hbad nx
    have hB := h.rsB
    have hT := h.fnT
    have hR := h
    obtain ⟨a1, a2, a3, a4, a5, a6, a7, a8⟩ := hR
    have ht : tkW n p (tk ch n p) := a1.1.tk
    have hpn : p ≤ n := a1.1.2.1.2.1
    have h4 : ¬ (tk ch n p).1 = 4 := a1.1.2.1.2.2
    have h20 : s.1 20 = nI (tk ch n p).1 := a1.1.2.1.1.1
    have h21 : s.1 21 = nI (tk ch n p).2.1 := a1.1.2.1.1.2.1
    refine vR11_read_7 ⟨a2.1.1, a2.1.2.1, C_isW (d := d) hst a1.1 (k := 0) (by decide) (a1.2.1.2.2.2.2.2 (41, 0) (by decide)) a1.2.1.2.1 ⟨_, rfl, pk_b (fun z => ⟨a2.1.1, a2.1.2.1, pk_eq (tk ch n p).1 0 (fun z0 => ?_) (fun z0 => ⟨a2.1.1, a2.1.2.1, a2.1.1, a2.1.2.1, ?_⟩) h20 rfl (by have := ht.1.1; omega) (by omega)⟩) (fun z => ⟨a2.1.1, ?_⟩)⟩⟩
    · refine R_resA (d := d + 4) hst hT ⟨a2.2.1, a2.2.2.1, a2.2.2.2.2.2.1, a2.2.2.2.2.2.2.1, a2.2.2.2.2.2.2.2.1.1, a2.2.2.2.2.2.2.2.1.2.2.2, fun k hk => (a2.2.2.2.2.2.2.2.2 k hk).1⟩ a5 hL (by omega) (fun hg f' hr hv => hok s f' ⟨p, vs, O, c, ca, cap, A, C, Fn, DL, EL, f, h, z0, cfP.rf s, fun s00 => TT.rf, hr, hg, hv⟩) (fun e0 he0 hg0 hle s' f' hr hF => hbad s' f' ⟨6, e0.2.2.2.2, hF, ?_, by decide, Or.inr (fun q => by rw [q] at he0; exact absurd he0 List.not_mem_nil), Or.inr ⟨rfl, p, vs, O, c, C, Fn, z0, hB, fun s00 => TT.rf, ?_⟩⟩)
      · rw [hr.1.2.1]
        have := a2.2.2.2.2.2.2.2.1.2.2.1
        have := a5.2.1.length_eq
        rw [List.length_map] at this
        omega
      · obtain ⟨i1, i2⟩ := bst_spec (Fn := Fn) (C.map toB) none
        cases e : (C.map toB).foldl (bst Fn) none with
        | none => exact absurd ((i1 e).2 (toB e0) (List.mem_map.mpr ⟨e0, he0, rfl⟩)) hg0
        | some y =>
          obtain ⟨j1, -, j3⟩ := i2 y e
          rcases j1 with j1 | ⟨x, x1, x2, x3⟩
          · cases j1
          · obtain ⟨e1, he1, rfl⟩ := List.mem_map.mp x1
            have l1 : y ≤ e0.2.2.2.2 := j3 (toB e0) (List.mem_map.mpr ⟨e0, he0, rfl⟩) hg0
            have l2 : e0.2.2.2.2 ≤ e1.2.2.2.2 := hle e1 he1 x2
            have l3 : e1.2.2.2.2 = y := x3
            have : y = e0.2.2.2.2 := by omega
            rw [this]
    · rw [h21]
      refine C_wrongF hst (hbad _ f ⟨2, (tk ch n p).2.1, ⟨⟨fun j hj => by
        simp only [List.mem_cons, List.not_mem_nil, or_false] at hj
        exact (uI_ne _ _ (by omega)).trans (uI_ne _ _ (by omega)), rfl⟩, rfl, rfl⟩, ?_, by decide, Or.inl z0, Or.inl (fun s00 => Tx_bad hst (by omega) hB.2.2.1 z z0 (if_neg h4) rfl s00)⟩) (fun _ _ _ => rfl)
      have := a2.2.2.2.2.2.2.2.1.2.2.1
      have := a5.2.1.length_eq
      rw [List.length_map] at this
      omega
    · exact R_fn (vs := vs) (wm := wm) (dt := dt) hst h z hd (fun s' f' q => ⟨rfl, nx s' f' z q⟩) (fun s' f' q => by
        obtain ⟨k, pl, q1, q2, q3, q4⟩ := q
        exact hbad s' f' ⟨k, pl, q1, q2, q3, Or.inl (kw_ne z), Or.inl q4⟩)
  intro m
  induction m with
  | zero =>
    intro p ca cap c vs O A C Fn DL EL s f hm h hL hok hbad
    refine stp 0 p ca cap c vs O A C Fn DL EL s f hm h hL hok hbad (fun s1 f1 z q => ?_)
    obtain ⟨p', -, -, -, -, -, -, -, -, -, -, q1, q2, -⟩ := q
    have : p' ≤ n := q1.1.1.2.1.2.1
    omega
  | succ m ih =>
    intro p ca cap c vs O A C Fn DL EL s f hm h hL hok hbad
    refine stp (m + 1) p ca cap c vs O A C Fn DL EL s f hm h hL hok hbad (fun s1 f1 z q => ?_)
    obtain ⟨p', vs', O', c', ca', cap', A', C', Fn', DL', EL', q1, ⟨q2, q3⟩, q4⟩ := q
    have hp' : p' ≤ n := q1.1.1.2.1.2.1
    have hL' : f1.2.2.2 ≤ L := by
      have := q1.2.2.1.2.2.2.2.1
      have := q1.2.2.1.2.2.2.1.1
      omega
    exact ih p' ca' cap' c' vs' O' A' C' Fn' DL' EL' s1 f1 (by omega) q1 hL' (fun s' f' y => hok s' f' (y.pre q3 q4)) (fun s' f' y => hbad s' f' (y.pre q3 q4 (Or.inl (kw_ne z))))
theorem R_read (hst : l.stackTraces = false) (hd : 260 ≤ d) (hx : cTx s ch n) (h19 : s.1 19 = nI 0) (h23 : s.1 23 = nI 0) (h14 : s.1 14 = 0 ∧ s.1 15 = -1) (h0 : ∀ s', cSc ch n 0 0 s' → rdS E w ch n hf x0 fa L K0 0 ca cap 0 O [] [] [] DL EL s' f) (hk : cKc E f) (hox : oc f x0 11 ∧ vl f x0 147 = .ref (w.1 2)) (hb : f.2.1 ≤ K0) (hL : f.2.2.2 ≤ L)
    (hok : ∀ s' f', rdFin l E w wm dt ch n hf x0 fa L K0 0 vs 0 O [] [] s s' f' → Q (.inl none) s' f') (hbad : ∀ s' f', rdFail l E wm dt ch n hf K0 0 vs 0 O [] [] s s' f' → Q (.inr 1) s' f') : EvC l E w (d + 1) MX11_read [.ref x0] s f Q := by
  obtain ⟨d, rfl⟩ : ∃ d', d = d' + 6 := ⟨d - 6, by omega⟩
  refine eR11_read hst ⟨hox.1, hox.2, T_next (d := d) hst hx hk.1 h19 (Nat.zero_le _) (fun s' z hF => ?_) (fun s' z hF hT => ⟨rfl, ?_⟩)⟩
  · obtain ⟨s1, g1, rfl⟩ := hF
    refine hbad _ f ⟨1, (tk ch n 0).2.1, ⟨⟨fun j hj => ?_, ?_⟩, rfl, rfl⟩, hb, by decide, Or.inl (by omega), Or.inl (fun s00 => Tx_bad hst (by omega) (fun u hu => absurd hu List.not_mem_nil) (by
      unfold kw; rw [if_neg (by omega)]; decide) (by omega) (if_pos z) rfl s00)⟩
    · simp only [List.mem_cons, List.not_mem_nil, or_false] at hj
      exact ((uI_ne _ _ (by omega)).trans (uI_ne _ _ (by omega))).trans (g1.1 j (by simp only [List.mem_cons, List.not_mem_nil, or_false]; omega))
    · exact g1.2
  · have hS : cSc ch n 0 0 s' := ⟨⟨(hF.1 18 (by decide)).trans hx.1, hx.2.1, fun k hk => by rw [hF.2]; exact hx.2.2.1 k hk, hx.2.2.2⟩, ⟨hT, Nat.zero_le _, z⟩, (hF.1 23 (by decide)).trans h23, by decide, (hF.1 14 (by decide)).trans h14.1, (hF.1 15 (by decide)).trans h14.2⟩
    have hc : cfP s s' := ⟨fun j hj => hF.1 j (fun q => hj (by simp only [List.mem_cons, List.not_mem_nil, or_false] at q ⊢; omega)), hF.2⟩
    exact R_read7 (wm := wm) (dt := dt) (vs := vs) hst hd n 0 ca cap 0 vs O [] [] [] DL EL s' f (by omega) (h0 s' hS) hL (fun s2 f2 y => hok s2 f2 (y.pre hc (fun s00 => TT.rf))) (fun s2 f2 y => hbad s2 f2 (y.pre hc (fun s00 => TT.rf) (by obtain ⟨-, -, -, -, -, hn, -⟩ := y; exact hn)))
end RD2
