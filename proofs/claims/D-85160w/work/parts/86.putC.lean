/-! THE COMPONENT'S TREES: a value comes to a name; asks -/
section CPu
variable {l : Launch} {E : EN} {w : CO} {d : Nat} {s s' s0 : CS} {f f' f0 : RH} {Q : KO → CS → RH → Prop} {fuel : Nat} {Bb : Nat × Nat} {P : Pg} {C pl A : List Th} {fr fr' : List Fm} {N : List Nat} {wy : List Wy} {sh sh' : Nat → Option Th} {ct ct1 : Ct} {out out1 : List Int32} {a t h L : Nat} {place : Int32}
theorem cFr.low {B : Nat} (hF : Frz f f') (h27 : ∀ i, i < B → s'.2.2.1 27 i = s.2.2.1 27 i) (h28 : ∀ i, i < B → s'.2.2.2 28 i = s.2.2.2 28 i) (h29 : ∀ i, i < B → s'.2.2.1 29 i = s.2.2.1 29 i) : ∀ {fr : List Fm} {N : List Nat}, 14 * fr.length ≤ B → cFr E f s fr N → cFr E f' s' fr N
  | [], [], _, _ => trivial
  | q :: r, n :: ns, hB, h => by
    have hB : 14 * (r.length + 1) ≤ B := hB
    refine ⟨⟨h.1.1, fun k hk => ?_⟩, cFr.low hF h27 h28 h29 (by omega) h.2⟩
    have hn := h.1.1
    rw [h27 _ (by omega), h28 _ (by omega), h29 _ (by omega)]
    exact (h.1.2 k hk).frz hF
  | [], _ :: _, _, h => h.elim
  | _ :: _, [], _, h => h.elim
theorem cR.names (h : cR E f0 s0 fuel Bb (C ++ A) fr N sh ct out s f) (hi : ∀ j, j ≠ 26 → s'.1 j = s.1 j) (h26 : s'.1 26 = nI C.length) (hr : s'.2.1 = s.2.1) (hA : ∀ j, j ∉ [27, 29, 42, 46] → s'.2.2.1 j = s.2.2.1 j) (hB : ∀ j, j ∉ [28, 44] → s'.2.2.2 j = s.2.2.2 j) (hfr : cFr E f s' fr' N) (hl : fr'.length = fr.length) (hsh : ∀ k, k < 8 → cSv E f (s'.2.2.1 46 k) (s'.2.2.1 42 k) (s'.2.2.2 44 k) (sh' k)) : cR E f0 s0 fuel Bb C fr' N sh' ct out s' f := by
  obtain ⟨⟨h1, h2, h3, ⟨a1, a2, a3, a4, a5⟩, hb, ⟨o1, o2⟩, ⟨k1, k2, k3, k4⟩, he⟩, g1, g2, g3, g4, g5⟩ := h
  have h1' := h1.cut
  refine ⟨⟨⟨h1'.1, h1'.2.1, fun i hi' => ?_⟩, hfr, hsh, ⟨by rw [hi 37 (by decide)]; exact a1, by rw [hi 38 (by decide)]; exact a2, by rw [hi 39 (by decide)]; exact a3, by rw [hi 40 (by decide)]; exact a4, by rw [hi 41 (by decide)]; exact a5⟩, hb, ⟨by rw [hi 53 (by decide)]; exact o1, fun i hi' h6 => by rw [hA 52 (by decide)]; exact o2 i hi' h6⟩, ⟨fun j hj => ?_, hr.trans k2, fun j hj => ?_, fun j hj => ?_⟩, he⟩, h26, by rw [hi 36 (by decide), hl]; exact g2, g3, g4, by rw [hl]; exact g5⟩
  · rw [hA 24 (by decide), hB 25 (by decide)]
    exact h1'.2.2 i hi'
  · rw [hi j (fun z => hj (by rw [z]; decide))]
    exact k1 j hj
  · rw [hA j (fun z => hj (by simp only [List.mem_cons, List.not_mem_nil, or_false] at z ⊢; omega))]
    exact k3 j hj
  · rw [hB j (fun z => hj (by simp only [List.mem_cons, List.not_mem_nil, or_false] at z ⊢; omega))]
    exact k4 j hj
theorem C_put (hst : l.stackTraces = false) {n nv : Nat} {v : Th} (h : cR E f0 s0 fuel Bb (C ++ [v]) fr N sh ct out s f) (hN : N.head? = some nv) (hn : n < 8 + nv) (h1 : ∀ s1, cR E f0 s0 fuel Bb C (aputF fr n v) N (aputS sh n v) ct out s1 f → Q (.inl none) s1 f) : EvC l E w (d + 2) MX3_put [.ref (w.1 3), .int (nI n)] s f Q := by
  obtain ⟨hB, g1, g2, g3, g4, g5⟩ := id h
  have hsh := hB.2.2.1
  have hcf := hB.2.1
  have hCl : C.length + 1 ≤ 8380 := by have := hB.1.1; rw [List.length_append] at this; exact this
  obtain ⟨q, r, rfl⟩ : ∃ q r, fr = q :: r := by
    match fr, g5.1 with
    | q :: r, _ => exact ⟨q, r, rfl⟩
  obtain ⟨ns, rfl⟩ : ∃ ns, N = nv :: ns := by
    match N, hN with
    | n' :: ns, hN => exact ⟨ns, by injection hN with hN; rw [hN]⟩
  have hrl : r.length ≤ 9 := by have := g5.2; simp at this; omega
  obtain ⟨⟨hnv, hvar⟩, hlow⟩ := hcf
  have e26 : s.1 26 = nI (C.length + 1) := by rw [g1, List.length_append]; rfl
  have hv := hB.1.2.2 C.length (by rw [List.length_append]; exact Nat.lt_succ_self _)
  have eg : (C ++ [v]).getD C.length (zI 0) = v := by rw [List.getD_eq_getElem?_getD, List.getElem?_append_right (Nat.le_refl _), Nat.sub_self]; rfl
  rw [eg] at hv
  have hZ : ZW v := hB.1.2.1 v (List.mem_append_right _ (List.mem_singleton.mpr rfl))
  refine eX3_put hst ⟨fun c y1 ey => ?_, fun c => ?_⟩
  · have h8 : 8 ≤ n := by
      have : (8 : Int32) = nI 8 := rfl
      rw [this] at c
      exact (nI_leI (by omega) (by omega)).mp c
    have e36 : s.1 36 = nI (r.length + 1) := g2
    rw [e36, nI_var r.length n h8 (by omega)] at ey
    subst ey
    rw [e26, nI_pred, nI_clamp (n := C.length) (by omega), nI_clamp (n := 14 * r.length + (n - 8)) (by omega)]
    have hin : inB (nI (14 * r.length + (n - 8))) 140 := inB_n (by omega)
    refine ⟨inB_n (by omega), hin, inB_n (by omega), _, rfl, hv.isR, hin, hv.isT, hin, h1 _ ?_⟩
    have hF9 : aputF (q :: r) n v = (vput q.1 (n - 8) (some v), q.2) :: r := if_neg (by omega)
    have hS9 : aputS sh n v = sh := if_neg (by omega)
    rw [hF9, hS9]
    generalize hi9 : 14 * r.length + (n - 8) = I
    generalize hS : uA (uT (uA (uI s 26 (nI C.length)) 27 I (s.2.2.1 24 C.length)) 28 I (s.2.2.2 25 C.length)) 29 I 1 = S
    have r0 : ∀ j, S.1 j = if j = 26 then nI C.length else s.1 j := fun j => by rw [← hS]; rfl
    have r1 : ∀ j i, S.2.2.1 j i = if j = 29 ∧ i = I then 1 else if j = 27 ∧ i = I then s.2.2.1 24 C.length else s.2.2.1 j i := fun j i => by rw [← hS]; rfl
    have r2 : ∀ j i, S.2.2.2 j i = if j = 28 ∧ i = I then s.2.2.2 25 C.length else s.2.2.2 j i := fun j i => by rw [← hS]; rfl
    have r3 : S.2.1 = s.2.1 := by rw [← hS]; rfl
    refine h.names (A := [v]) (fun j hj => by rw [r0, if_neg hj]) (by rw [r0, if_pos rfl]) r3 (fun j hj => ?_) (fun j hj => ?_) ⟨⟨hnv, fun k hk => ?_⟩, cFr.low (B := 14 * r.length) (Frz.rf f) (fun i hi => ?_) (fun i hi => ?_) (fun i hi => ?_) (Nat.le_refl _) hlow⟩ rfl (fun k hk => ?_)
    · funext i
      rw [r1, if_neg (fun z => hj (by rw [z.1]; decide)), if_neg (fun z => hj (by rw [z.1]; decide))]
    · funext i
      rw [r2, if_neg (fun z => hj (by rw [z.1]; decide))]
    · show cVar E f _ _ _ (if k = n - 8 then some v else q.1 k)
      rw [r1 29, r1 27, r2]
      by_cases hk9 : k = n - 8
      · have e9 : 14 * r.length + k = I := by omega
        rw [if_pos ⟨rfl, e9⟩, if_neg (fun z => absurd z.1 (by decide)), if_pos ⟨rfl, e9⟩, if_pos ⟨rfl, e9⟩, if_pos hk9]
        exact ⟨rfl, hv, hZ⟩
      · have e9 : ¬ 14 * r.length + k = I := by omega
        rw [if_neg (fun z => e9 z.2), if_neg (fun z => e9 z.2), if_neg (fun z => e9 z.2), if_neg (fun z => e9 z.2), if_neg (fun z => e9 z.2), if_neg hk9]
        exact hvar k hk
    · rw [r1, if_neg (fun z => absurd z.1 (by decide)), if_neg (by omega)]
    · rw [r2, if_neg (by omega)]
    · rw [r1, if_neg (by omega), if_neg (fun z => absurd z.1 (by decide))]
    · rw [r1 46, r1 42, r2, if_neg (fun z => absurd z.1 (by decide)), if_neg (fun z => absurd z.1 (by decide)), if_neg (fun z => absurd z.1 (by decide)), if_neg (fun z => absurd z.1 (by decide)), if_neg (fun z => absurd z.1 (by decide))]
      exact hsh k hk
  · have h8 : n < 8 := by
      have : (8 : Int32) = nI 8 := rfl
      rw [this] at c
      have := mt (nI_leI (by omega) (by omega)).mpr c
      omega
    rw [e26, nI_pred, nI_clamp (n := C.length) (by omega)]
    refine ⟨inB_n (by omega), inB_n (by omega), _, rfl, hv.isR, ?_⟩
    have hin : inB (nI n) 8 := inB_n (by omega)
    refine eX4_put hv.isR hst ?_
    rw [nI_clamp (n := n) (by omega)]
    refine ⟨hin, hin, hv.isT, hin, ⟨rfl, h1 _ ?_⟩⟩
    have hF9 : aputF (q :: r) n v = q :: r := if_pos h8
    have hS9 : aputS sh n v = vput sh n (some v) := if_pos h8
    rw [hF9, hS9]
    generalize hS : uA (uT (uA (uI s 26 (nI C.length)) 42 n (s.2.2.1 24 C.length)) 44 n (s.2.2.2 25 C.length)) 46 n 1 = S
    have r0 : ∀ j, S.1 j = if j = 26 then nI C.length else s.1 j := fun j => by rw [← hS]; rfl
    have r1 : ∀ j i, S.2.2.1 j i = if j = 46 ∧ i = n then 1 else if j = 42 ∧ i = n then s.2.2.1 24 C.length else s.2.2.1 j i := fun j i => by rw [← hS]; rfl
    have r2 : ∀ j i, S.2.2.2 j i = if j = 44 ∧ i = n then s.2.2.2 25 C.length else s.2.2.2 j i := fun j i => by rw [← hS]; rfl
    have r3 : S.2.1 = s.2.1 := by rw [← hS]; rfl
    have n27 : S.2.2.1 27 = s.2.2.1 27 := funext fun i => by rw [r1, if_neg (fun z => absurd z.1 (by decide)), if_neg (fun z => absurd z.1 (by decide))]
    have n29 : S.2.2.1 29 = s.2.2.1 29 := funext fun i => by rw [r1, if_neg (fun z => absurd z.1 (by decide)), if_neg (fun z => absurd z.1 (by decide))]
    have n28 : S.2.2.2 28 = s.2.2.2 28 := funext fun i => by rw [r2, if_neg (fun z => absurd z.1 (by decide))]
    refine h.names (A := [v]) (fun j hj => by rw [r0, if_neg hj]) (by rw [r0, if_pos rfl]) r3 (fun j hj => ?_) (fun j hj => ?_) (cFr.mv (s := s) (s' := S) (Frz.rf f) n27 n28 n29 ⟨⟨hnv, hvar⟩, hlow⟩) rfl (fun k hk => ?_)
    · funext i
      rw [r1, if_neg (fun z => hj (by rw [z.1]; decide)), if_neg (fun z => hj (by rw [z.1]; decide))]
    · funext i
      rw [r2, if_neg (fun z => hj (by rw [z.1]; decide))]
    · show cSv E f _ _ _ (if k = n then some v else sh k)
      rw [r1 46, r1 42, r2]
      by_cases hk9 : k = n
      · rw [if_pos ⟨rfl, hk9⟩, if_neg (fun z => absurd z.1 (by decide)), if_pos ⟨rfl, hk9⟩, if_pos ⟨rfl, hk9⟩, if_pos hk9]
        exact ⟨rfl, hv, hZ⟩
      · rw [if_neg (fun z => hk9 z.2), if_neg (fun z => hk9 z.2), if_neg (fun z => hk9 z.2), if_neg (fun z => hk9 z.2), if_neg (fun z => hk9 z.2), if_neg hk9]
        exact hsh k hk
theorem C_isTrue (hst : l.stackTraces = false) {v : Th} (h : cR E f0 s0 fuel Bb (C ++ [v]) fr N sh ct out s f) (h3 : ¬ zk v = 0 → cT E f0 s0 fuel Bb C fr N sh ct out (3, place, 0) (cwrong s 3 place) f → Q (.inr 9) (cwrong s 3 place) f) (h0 : zk v = 0 → zv v = 0 → ∀ s1, cR E f0 s0 fuel Bb C fr N sh ct out s1 f → Q (.inl (some (.int 0))) s1 f) (h1 : zk v = 0 → ¬ zv v = 0 → ∀ s1, cR E f0 s0 fuel Bb C fr N sh ct out s1 f → Q (.inl (some (.int 1))) s1 f) : EvC l E w (d + 2) MX3_isTrue [.ref (w.1 3), .int place] s f Q := by
  obtain ⟨hB, g1, g2, g3, g4, g5⟩ := id h
  have hCl : C.length + 1 ≤ 8380 := by have := hB.1.1; rw [List.length_append] at this; exact this
  have e26 : s.1 26 = nI (C.length + 1) := by rw [g1, List.length_append]; rfl
  have hv := hB.1.2.2 C.length (by rw [List.length_append]; exact Nat.lt_succ_self _)
  have eg : (C ++ [v]).getD C.length (zI 0) = v := by rw [List.getD_eq_getElem?_getD, List.getElem?_append_right (Nat.le_refl _), Nat.sub_self]; rfl
  rw [eg] at hv
  have fin : cR E f0 s0 fuel Bb C fr N sh ct out (uI s 26 (nI C.length)) f := h.names (A := [v]) (fun j hj => if_neg hj) rfl rfl (fun j hj => rfl) (fun j hj => rfl) (cFr.mv (s := s) (s' := uI s 26 (nI C.length)) (Frz.rf f) rfl rfl rfl hB.2.1) rfl hB.2.2.1
  refine eX3_isTrue hst ?_
  rw [e26, nI_pred]
  refine C_asInt hst (by omega) hv (fun c => ⟨_, rfl, fun c2 => ?_, fun c2 => ?_⟩) (fun c => h3 c ?_)
  · rw [e26, nI_pred]
    exact h0 c c2 _ fin
  · rw [e26, nI_pred]
    exact h1 c c2 _ fin
  · refine ⟨?_, ⟨rfl, rfl, rfl⟩, by omega, by omega, fun _ => g3⟩
    exact hB.ord (Frz.rf f) ⟨hB.2.2.2.2.2.2.2.1, hB.2.2.2.2.2.2.2.2.1⟩ (cwrong_fr JC C.length s 3 place) hB.2.2.2.1.2.2.2.1 (Nat.le_refl _)
end CPu
