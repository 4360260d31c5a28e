/-! THE COMPONENT'S TREES: rounds, drop, down, raise, taken -/
section CDd
variable {l : Launch} {E : EN} {w : CO} {d : Nat} {s s' s0 : CS} {f f' f0 : RH} {Q : KO → CS → RH → Prop} {fuel : Nat} {Bb : Nat × Nat} {P : Pg} {C pl A : List Th} {fr fr' : List Fm} {N : List Nat} {wy : List Wy} {sh sh' : Nat → Option Th} {ct ct1 : Ct} {out out1 : List Int32} {a t h L : Nat} {place : Int32} {v : Th}
/-- what lies highest -/
theorem cR.hi (h : cR E f0 s0 fuel Bb (C ++ [v]) fr N sh ct out s f) : C.length + 1 ≤ 8380 ∧ s.1 26 = nI (C.length + 1) ∧ rcV E f (s.2.2.1 24 C.length) (s.2.2.2 25 C.length) v ∧ ZW v := by
  obtain ⟨hB, g1, g2, g3, g4, g5⟩ := h
  have hv := hB.1.2.2 C.length (by rw [List.length_append]; exact Nat.lt_succ_self _)
  have eg : (C ++ [v]).getD C.length (zI 0) = v := by rw [List.getD_eq_getElem?_getD, List.getElem?_append_right (Nat.le_refl _), Nat.sub_self]; rfl
  rw [eg] at hv
  exact ⟨by have := hB.1.1; rw [List.length_append] at this; exact this, by rw [g1, List.length_append]; rfl, hv, hB.1.2.1 v (List.mem_append_right _ (List.mem_singleton.mpr rfl))⟩
theorem cR.drop (h : cR E f0 s0 fuel Bb (C ++ A) fr N sh ct out s f) : cR E f0 s0 fuel Bb C fr N sh ct out (uI s 26 (nI C.length)) f := h.names (A := A) (fun j hj => if_neg hj) rfl rfl (fun j hj => rfl) (fun j hj => rfl) (cFr.mv (s := s) (s' := uI s 26 (nI C.length)) (Frz.rf f) rfl rfl rfl h.1.2.1) rfl h.1.2.2.1
theorem C_drop1 (hst : l.stackTraces = false) (h : cR E f0 s0 fuel Bb (C ++ [v]) fr N sh ct out s f) (h1 : ∀ s1, cR E f0 s0 fuel Bb C fr N sh ct out s1 f → Q (.inl none) s1 f) : EvC l E w d MX3_drop [.ref (w.1 3)] s f Q := by
  refine eX3_drop hst ?_
  rw [h.hi.2.1, nI_pred]
  exact h1 _ h.drop
/-- a trouble that an order tells before it has changed anything -/
theorem cR.wrong {k : Nat} {kk : Int32} (h : cR E f0 s0 fuel Bb (C ++ A) fr N sh ct out s f) (hk : kk = nI k) : cT E f0 s0 fuel Bb C fr N sh ct out (k, place, 0) (cwrong s kk place) f := by
  obtain ⟨hB, g1, g2, g3, g4, g5⟩ := h
  refine ⟨?_, ⟨hk, rfl, rfl⟩, by omega, by omega, fun _ => g3⟩
  exact hB.ord (Frz.rf f) ⟨hB.2.2.2.2.2.2.2.1, hB.2.2.2.2.2.2.2.2.1⟩ (cwrong_fr JC C.length s kk place) hB.2.2.2.1.2.2.2.1 (Nat.le_refl _)
theorem C_rounds (hst : l.stackTraces = false) (h : cR E f0 s0 fuel Bb (C ++ [v]) fr N sh ct out s f) (h0 : zk v = 0 → zv v < 0 → cT E f0 s0 fuel Bb C fr N sh ct out (1, place, 0) (cwrong s 1 place) f → Q (.inr 9) (cwrong s 1 place) f) (h1 : ¬ (zk v = 0 ∧ zv v < 0) → Q (.inl (some (.int (nI (if zk v = 0 then (zv v).toNatClampNeg else zn v))))) s f) : EvC l E w (d + 1) MX3_rounds [.ref (w.1 3), .int place] s f Q := by
  obtain ⟨hl, e26, hv, hZ⟩ := h.hi
  refine eX3_rounds hst ?_
  rw [e26, nI_pred, nI_clamp (n := C.length) (by omega)]
  refine ⟨inB_n (by omega), _, rfl, hv.isR, fun e => ?_, fun p e => ?_⟩
  · rcases hv.cls with ⟨c0, c1, c2⟩ | ⟨p, c1, _⟩
    · have hn0 : zv v < 0 ↔ ¬ 0 ≤ zv v := by rw [Int32.not_le]
      rw [if_pos c0] at h1
      rw [c2]
      refine ⟨inB_n (by omega), fun c => ⟨inB_n (by omega), ?_⟩, fun c => C_wrong hst (Q := Q) (h0 c0 (hn0.mpr c) (h.wrong rfl)) (fun _ _ _ => rfl)⟩
      have hnn : ¬ zv v < 0 := by rw [hn0]; exact fun z => z c
      have := h1 (fun z => hnn z.2)
      rw [← (i32_nat hnn).2] at this
      exact this
    · rw [e] at c1; cases c1
  · rcases hv.cls with ⟨c0, c1, c2⟩ | ⟨p', c1, c2, c3, c4, hp⟩
    · rw [e] at c1; cases c1
    rw [e] at c1 hp
    cases c1
    rw [if_neg c3] at h1
    refine ⟨inB_n (by omega), _, rfl, hv.isR, p, e, fun o s1 f2 => o = .inl (some (.int (nI (zn v)))) ∧ s1 = s ∧ f2 = f, ?_, C_size hst hp ⟨rfl, rfl, rfl⟩⟩
    rintro o s1 f2 ⟨rfl, rfl, rfl⟩
    exact ⟨_, rfl, h1 (fun z => c3 z.1)⟩
/-- what lies highest comes down to a place -/
theorem C_down (hst : l.stackTraces = false) {B : List Th} (h : cR E f0 s0 fuel Bb (C ++ B ++ [v]) fr N sh ct out s f) (h1 : ∀ s1, cR E f0 s0 fuel Bb (C ++ [v]) fr N sh ct out s1 f → Q (.inl none) s1 f) : EvC l E w d MX3_down [.ref (w.1 3), .int (nI C.length)] s f Q := by
  obtain ⟨hl, e26, hv, hZ⟩ := h.hi
  rw [List.length_append] at hl
  refine eX3_down hst ?_
  rw [e26, nI_pred, nI_clamp (n := C.length) (by omega), nI_clamp (n := (C ++ B).length) (by rw [List.length_append]; omega), nI_1]
  have hin : inB (nI (C ++ B).length) 8400 := inB_n (by rw [List.length_append]; omega)
  refine ⟨hin, inB_n (by omega), hin, _, rfl, hv.isR, inB_n (by omega), hv.isT, h1 _ ?_⟩
  obtain ⟨hB, g1, g2, g3, g4, g5⟩ := id h
  rw [List.append_assoc] at hB
  have hf : cfr JC C.length s (cpsh s C.length (s.2.2.1 24 (C ++ B).length) (s.2.2.2 25 (C ++ B).length)) := cpsh_fr JC s _ _ (Nat.le_refl _)
  have hB2 := hB.ord (md := ct.2.1) (Frz.rf f) ⟨hB.2.2.2.2.2.2.2.1, hB.2.2.2.2.2.2.2.2.1⟩ hf hB.2.2.2.1.2.2.2.1 (Nat.le_refl _)
  refine ⟨⟨hB2.1.app (by omega) (by rw [cpsh_n, cpsh_t, if_pos rfl, if_pos rfl]; exact hv) hZ, hB2.2⟩, ?_, ?_, g3, g4, g5⟩
  · show nI (C.length + 1) = nI (C ++ [v]).length
    rw [List.length_append]; rfl
  · exact g2
theorem C_raise (hst : l.stackTraces = false) (h : cR E f0 s0 fuel Bb (C ++ [v]) fr N sh ct out s f) (h3 : ¬ zk v = 0 → cT E f0 s0 fuel Bb C fr N sh ct out (3, place, 0) (cwrong s 3 place) f → Q (.inr 9) (cwrong s 3 place) f) (h1 : zk v = 0 → ∀ s1, cT E f0 s0 fuel Bb C fr N sh ct out (9, place, zv v) s1 f → Q (.inr 9) s1 f) : EvC l E w (d + 2) MX3_raise [.ref (w.1 3), .int place] s f Q := by
  obtain ⟨hl, e26, hv, hZ⟩ := h.hi
  refine eX3_raise hst ?_
  rw [e26, nI_pred]
  refine C_asInt hst (by omega) hv (fun c => ⟨_, rfl, ?_⟩) (fun c => h3 c (h.wrong rfl))
  refine eX3_wrong hst ⟨rfl, h1 c _ ?_⟩
  obtain ⟨hT, -, t1, t2, t3⟩ := h.wrong (k := 9) (kk := 9) (place := place) rfl
  have e9 : C = C ++ [] := (List.append_nil C).symm
  rw [e9] at hT
  exact ⟨hT.ord (Frz.rf f) ⟨hT.2.2.2.2.2.2.2.1, hT.2.2.2.2.2.2.2.2.1⟩ (cfr.uI JC C.length _ 56 _) hT.2.2.2.1.2.2.2.1 (Nat.le_refl _), ⟨rfl, rfl, rfl⟩, t1, t2, t3⟩
end CDd
