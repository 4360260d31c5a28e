/-! THE MODEL: orders that take values and give one -/
section MV
variable {l : Launch} {E : EN} {w : MO} {d : Nat} {Q : Option Value → MS → Prop} {P : Pg} {fuel : Nat} {s0 s : MS} {pc : Nat} {pl : List Th} {fr : List Fm} {wy : List Wy} {sh : Nat → Option Th} {ct : Ct} {out : List Int32}
theorem mS.mok {args rest : List Th} (hS : mS fuel s0 pc (args.reverse ++ rest) fr wy sh ct out s) (hl : args.length + rest.length ≤ 8300) (hm : ct.2.1 ≤ 3000) (hw : ∀ t ∈ args, ZW t) : ∃ b, MOk b rest.length ct.2.1 args s ∧ mEm b s ∧ mBz fuel s0 b fr wy sh ct.1 ct.2.2.1 ct.2.2.2 out s ∧ mPs s b rest ∧ ∀ r s', zkd r → mop b rest.length ct.2.1 r s s' → mRz fuel s0 (afin pc r rest fr wy sh ct out (s.1 127)) s' := by
  obtain ⟨b, hB, hP, h105, h108, h119, hb, h123, h124, h126⟩ := hS
  have hPr := mPs.tl _ _ hP
  rw [List.length_append, List.length_reverse] at h108
  have hem : 154242 ≤ b := hB.em.1
  refine ⟨b, ⟨⟨h105, by omega, by omega, by rw [h108]; congr 1; omega, fun i hi => hP.args i hi⟩, by omega, by omega, h119, hm, h123, hw⟩, hB.em, hB, hPr, fun r s' hk q => ?_⟩
  obtain ⟨q1, q2⟩ := q
  cases r with
  | inl k =>
    obtain ⟨q3, q4, q5, b', q6, q7, q8⟩ := q2
    have hkk := hk k rfl
    refine Or.inr ⟨b', hB.op q6 q1, hPr.op q6 q1 (Nat.le_refl _), q8, q3, by omega, q4, ?_, ?_, q5, fun c => ?_⟩
    · show ¬ k = 0; omega
    · show k < 12; omega
    · exact absurd c (by show ¬ k = 9; omega)
  | inr v =>
    obtain ⟨q3, b', q6, q7, q8, q9⟩ := q2
    unfold afin
    dsimp only
    split at q9
    · rename_i c
      rw [if_pos c]
      exact Or.inr ⟨b', hB.op q6 q1, hPr.op q6 q1 (Nat.le_refl _), q8, q3, by show b' ≤ 154550 + (ct.2.1 + zm v); omega, q9.1, (show ¬ 11 = 0 by decide), (show 11 < 12 by decide), q9.2, fun c => absurd c (show ¬ 11 = 9 by decide)⟩
    · rename_i c
      rw [if_neg c]
      obtain ⟨q10, q11, q12⟩ := q9
      have hv := q12.2.2.2.2 0 (by show 0 < 1; decide)
      exact Or.inl ⟨rfl, b', hB.op q6 q1, ⟨hv, hPr.op q6 q1 (Nat.le_refl _)⟩, q8, q12.2.2.2.1, q3, by show b' ≤ 154250 + (ct.2.1 + zm v); omega, q10, q11.trans h124, fun c => (q1.1 126 (by decide)).trans (h126 c)⟩
end MV
