/-! THE COMPONENT'S TREES: what a try takes -/
section CTn
variable {l : Launch} {E : EN} {w : CO} {d : Nat} {s s' s0 : CS} {f f' f0 : RH} {Q : KO → CS → RH → Prop} {fuel : Nat} {Bb : Nat × Nat} {C pl A : List Th} {fr fr' : List Fm} {N : List Nat} {sh sh' : Nat → Option Th} {ct ct1 : Ct} {out out1 : List Int32} {place : Int32} {v : Th} {tr : Nat × Int32 × Int32}
theorem cB.ints {md tk : Nat} (h : cB E f0 s0 fuel Bb C fr N sh ct out s f) (h2 : s'.2 = s.2) (hi : ∀ j, j ∉ [26, 36, 40, 41, 54, 55, 56] → s'.1 j = s.1 j) (h40 : s'.1 40 = nI md) (h41 : s'.1 41 = nI tk) (hb : 300 * tk ≤ md) : cB E f0 s0 fuel Bb C fr N sh (ct.1, md, ct.2.2.1, tk) out s' f := by
  obtain ⟨b1, b2, b3, ⟨a1, a2, a3, a4, a5⟩, ⟨c1, c2, c3, c4⟩, ⟨o1, o2⟩, ⟨k1, k2, k3, k4⟩, he⟩ := h
  obtain ⟨i, rest⟩ := s
  obtain ⟨i', rest'⟩ := s'
  have h2 : rest' = rest := h2
  subst h2
  refine ⟨b1, cFr.mv (s := (i, rest')) (s' := (i', rest')) (Frz.rf f) rfl rfl rfl b2, b3, ⟨by rw [hi 37 (by decide)]; exact a1, by rw [hi 38 (by decide)]; exact a2, by rw [hi 39 (by decide)]; exact a3, h40, h41⟩, ⟨c1, c2, hb, c4⟩, ⟨by rw [hi 53 (by decide)]; exact o1, o2⟩, ⟨fun j hj => ?_, k2, k3, k4⟩, he⟩
  rw [hi j (fun z => hj (by simp only [List.mem_cons, List.not_mem_nil, or_false] at z ⊢; omega))]
  exact k1 j hj
theorem C_taken (hst : l.stackTraces = false) (hT : cT E f0 s0 fuel Bb C fr N sh ct out tr s f) (htr : tr.1 ≤ 100) (hfr : 1 ≤ fr.length ∧ fr.length ≤ 10) (hl : C.length + 1 ≤ 8380) (h10 : 10 ≤ tr.1 → Q (.inr 9) s f)
    (hok : tr.1 ≤ 9 → ct.2.1 + 300 ≤ 3000 → ∀ s1, cR E f0 s0 fuel Bb (C ++ [zI (if tr.1 = 9 then tr.2.2 else nI tr.1)]) fr N sh (ct.1, ct.2.1 + 300, ct.2.2.1, ct.2.2.2 + 1) out s1 f → Q (.inl none) s1 f)
    (hbad : tr.1 ≤ 9 → 3000 < ct.2.1 + 300 → ∀ s1, cT E f0 s0 fuel Bb C fr N sh (ct.1, ct.2.1 + 300, ct.2.2.1, ct.2.2.2 + 1) out (11, place, 0) s1 f → Q (.inr 9) s1 f) : EvC l E w (d + 2) MX3_taken [.ref (w.1 3), .ref (w.1 9), .int (nI C.length), .int (nI fr.length), .int place] s f Q := by
  obtain ⟨hB, ⟨t1, t2, t3⟩, g1, g2, g3⟩ := hT
  have hm := hB.2.2.2.1
  have hb := hB.2.2.2.2.1.2.2.1
  have h54 : s.1 54 < 10 ↔ tr.1 < 10 := by
    rw [t1, show (10 : Int32) = nI 10 from rfl]
    exact nI_ltI (by omega) (by omega)
  have h549 : s.1 54 = 9 ↔ tr.1 = 9 := by
    rw [t1, show (9 : Int32) = nI 9 from rfl]
    exact nI_eq (by omega) (by omega)
  have main : ∀ y : Int32, tr.1 ≤ 9 → y = (if tr.1 = 9 then tr.2.2 else nI tr.1) → EvC l E w (d + 1) MX3_makes [.ref (w.1 3), .int 300, .int place] (uI (uI (uI s 26 (nI C.length)) 36 (nI fr.length)) 41 ((s.1 41) + 1)) f (fun o s2 f3 => KP o (fun r => r = none ∧ (EvC l E w (d + 1) MX3_push [.ref (w.1 3), .int y] s2 f3 (fun o s4 f5 => KP o (fun r => r = none ∧ Q (.inl none) s4 f5) (fun k => Q (.inr k) s4 f5)))) (fun k => Q (.inr k) s2 f3)) := by
    intro y h9 ey
    have hm3 := g3 h9
    obtain ⟨a1, a2, a3, a4, a5⟩ := hm
    rw [a5, nI_1]
    generalize hS : uI (uI (uI s 26 (nI C.length)) 36 (nI fr.length)) 41 (nI (ct.2.2.2 + 1)) = S
    have r0 : ∀ j, S.1 j = if j = 41 then nI (ct.2.2.2 + 1) else if j = 36 then nI fr.length else if j = 26 then nI C.length else s.1 j := fun j => by rw [← hS]; rfl
    have r2 : S.2 = s.2 := by rw [← hS]; rfl
    have e40 : S.1 40 = nI ct.2.1 := by rw [r0, if_neg (by decide), if_neg (by decide), if_neg (by decide)]; exact a4
    have e300 : S.1 40 + 300 = nI (ct.2.1 + 300) := by rw [e40, show (300 : Int32) = nI 300 from rfl, nI_add]
    have cb : ∀ S2 : CS, S2.2 = s.2 → (∀ j, j ∉ [40, 54, 55, 56] → S2.1 j = S.1 j) → S2.1 40 = nI (ct.2.1 + 300) → cB E f0 s0 fuel Bb C fr N sh (ct.1, ct.2.1 + 300, ct.2.2.1, ct.2.2.2 + 1) out S2 f := fun S2 q1 q2 q3 => by
      refine hB.ints q1 (fun j hj => ?_) q3 ?_ (by omega)
      · rw [q2 j (fun z => hj (by simp only [List.mem_cons, List.not_mem_nil, or_false] at z ⊢; omega)), r0, if_neg (fun z => hj (by rw [z]; decide)), if_neg (fun z => hj (by rw [z]; decide)), if_neg (fun z => hj (by rw [z]; decide))]
      · rw [q2 41 (by decide), r0, if_pos rfl]
    refine eX3_makes hst ?_
    rw [e300]
    refine pk_le (ct.2.1 + 300) 3000 (fun c => ⟨rfl, ?_⟩) (fun c => ?_) rfl rfl
    · have hok := hok h9 c
      have hc := cb (uI S 40 (nI (ct.2.1 + 300))) r2 (fun j hj => if_neg (fun z => hj (by rw [z]; decide))) rfl
      generalize hmd : ct.2.1 + 300 = md at hok hc c ⊢
      have h26 : (uI S 40 (nI md)).1 26 = nI C.length := by
        show S.1 26 = _
        rw [r0, if_neg (by decide), if_neg (by decide), if_pos rfl]
      have h36 : (uI S 40 (nI md)).1 36 = nI fr.length := by
        show S.1 36 = _
        rw [r0, if_neg (by decide), if_pos rfl]
      have hR : cR E f0 s0 fuel Bb C fr N sh (ct.1, md, ct.2.2.1, ct.2.2.2 + 1) out (uI S 40 (nI md)) f := ⟨hc, h26, h36, c, by show f.2.1 ≤ Bb.1 + 3 * md; omega, hfr⟩
      refine C_push hst h26 (by omega) ⟨rfl, hok _ ?_⟩
      exact hR.push hl (cpsh_fr JC _ _ _ (Nat.le_refl _)) rfl rfl (by rw [cpsh_n, if_pos rfl]) (by rw [cpsh_t, if_pos rfl]) ⟨rfl, ey⟩ trivial
    · refine C_wrong hst (Q := Q) (hbad h9 c (cwrong (uI S 40 (nI (ct.2.1 + 300))) 11 place) ⟨cb _ r2 (fun j hj => ?_) rfl, ⟨rfl, rfl, rfl⟩, ?_, ?_, fun z => absurd z (by show ¬ 11 ≤ 9; decide)⟩) (fun _ _ _ => rfl)
      · show (if j = 56 then _ else if j = 55 then _ else if j = 54 then _ else if j = 40 then _ else S.1 j) = _
        rw [if_neg (fun z => hj (by rw [z]; decide)), if_neg (fun z => hj (by rw [z]; decide)), if_neg (fun z => hj (by rw [z]; decide)), if_neg (fun z => hj (by rw [z]; decide))]
      · show ct.2.1 + 300 ≤ 3400
        omega
      · show f.2.1 ≤ Bb.1 + 3 * (ct.2.1 + 300) + 800
        omega
  refine eX3_taken hst ⟨fun c => ⟨fun c2 y1 ey => main y1 (by have := h54.mp c; omega) ?_, fun c2 y6 ey => main y6 (by have := h54.mp c; omega) ?_⟩, fun c => h10 (by have := mt h54.mpr c; omega)⟩
  · rw [ey, if_neg (fun z => c2 (h549.mpr z))]; exact t1
  · rw [ey, if_pos (h549.mp c2)]; exact t3
end CTn
