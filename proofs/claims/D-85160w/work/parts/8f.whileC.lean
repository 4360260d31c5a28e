/-! THE COMPONENT'S TREES: while -/
section CD5
variable {l : Launch} {E : EN} {w : CO} {d : Nat} {s s' s0 : CS} {f f' f0 : RH} {Q : KO → CS → RH → Prop} {fuel : Nat} {Bb : Nat × Nat} {P : Pg} {F : Nat → Nat} {C pl A : List Th} {fr fr' : List Fm} {N : List Nat} {wy : List Wy} {sh sh' : Nat → Option Th} {ct ct' : Ct} {out out' : List Int32} {a b t j h u L p g M nv x y x1 x2 : Nat} {z z1 z2 z3 place : Int32}
theorem X_while (hst : l.stackTraces = false) (ih : NSp l E w f0 s0 fuel Bb P F M L g) (ihx : XSp l E w f0 s0 fuel Bb P F M L g) (hp : p < f0.2.2.2) (ho : oc f0 p 24) (hpl : vl f0 p 161 = .int place) (hP0 : P.1 a = (16, x, y, z, place)) (hr : RepN f0 P F M nv g (vl f0 p 185) (a + 1) t h) (hP : P.1 t = (14, b, x1, z1, place)) (hb : RepX f0 P F M nv g false (vl f0 p 186) (t + 1) j u h) (hPj : P.1 j = (15, a, x2, z2, z3))
    (hd : KD L (g + 1) ≤ d) (hL : fr.length + L = 10) (hN : N.head? = some nv) (hpre : aPre C pl fr wy h (u + 1) L) (hR : cR E f0 s0 fuel Bb C fr N sh ct out s f) (hQ : ∀ o s' f', oD E f0 s0 fuel Bb P a b C pl fr N wy sh ct out o s' f' → Q o s' f') : EvC l E w d MX26_act [.ref p, .ref (w.1 3)] s f Q := by
  unfold KD at hd
  obtain ⟨d, rfl⟩ : ∃ d', d = d' + 4 := ⟨d - 4, by omega⟩
  refine eX26_act hst ?_
  have main : ∀ (n : Nat) (s : CS) (f : RH) (fr' : List Fm) (sh' : Nat → Option Th) (ct' : Ct) (out' : List Int32), fuel ≤ ct'.1 + n → aSame fr fr' → ct.1 ≤ ct'.1 → aRch P fuel (a, pl, fr, wy, sh, ct, out, (0, -1, 0)) (a, pl, fr', wy, sh', ct', out', (0, -1, 0)) → cR E f0 s0 fuel Bb C fr' N sh' ct' out' s f → ExC l E w (d + 4) MX26_act 2 [some (.ref p), some (.ref (w.1 3)), some (.int 1)] [] s f Q := by
    intro n
    induction n with
    | zero =>
      intro s f fr' sh' ct' out' hn hs hct hrc hR'
      have hF := hR'.frz
      refine vX26_act_2 ⟨fun c => absurd c (by decide), fun _ => ⟨24, hF.ocE hp ho, by decide, by decide, place, by rw [hF.vlE hp]; exact hpl, ?_⟩⟩
      exact C_step hst hR' (fun hfu hT => hQ _ _ _ (Or.inr (Or.inr ⟨rfl, oT.same (aRch.rf _ _ _) hs (st_fuel (hpre.frs hs.len) hrc hR'.2.2.2.2.2 hR'.2.2.2.1 hP0 (Or.inr rfl) rfl hfu hT)⟩))) (fun hlt s1 hR1 => absurd hlt (by omega))
    | succ n ihn =>
      intro s f fr' sh' ct' out' hn hs hct hrc hR'
      have hF := hR'.frz
      have hpre' := hpre.frs hs.len
      have hL' : fr'.length + L = 10 := by rw [hs.len]; exact hL
      refine vX26_act_2 ⟨fun c => absurd c (by decide), fun _ => ⟨24, hF.ocE hp ho, by decide, by decide, place, by rw [hF.vlE hp]; exact hpl, ?_⟩⟩
      refine C_step hst hR' (fun hfu hT => hQ _ _ _ (Or.inr (Or.inr ⟨rfl, oT.same (aRch.rf _ _ _) hs (st_fuel hpre' hrc hR'.2.2.2.2.2 hR'.2.2.2.1 hP0 (Or.inr rfl) rfl hfu hT)⟩))) (fun hlt s1 hR1 => ?_)
      have hrc1 := hrc.trans (st_ok (fuel := fuel) hpre' hR'.2.2.2.2.2 hR'.2.2.2.1 hP0 (Or.inr rfl) hlt)
      obtain ⟨p', e1, hw⟩ := ih nv _ (a + 1) t h hr (d + 3) s1 f pl C fr' N wy sh' (ct'.1 + 1, ct'.2) out' (by unfold KD; omega) hL' hN hpre'.u1 hR1 _ (fun o s' f' q => q)
      refine ⟨rfl, hF.ocE hp ho, p', by rw [hF.vlE hp]; exact e1, _, ?_, hw⟩
      rintro o s2 f3 (⟨rfl, v, sh2, ct2, out2, hct2, hrc2, hR2⟩ | ⟨rfl, hT⟩)
      · have hF3 := hR2.frz
        have hh := hF3.ocE hp ho
        have hct2 : ct'.1 + 1 ≤ ct2.1 := hct2
        obtain ⟨-, -, -, hvZ⟩ := hR2.hi
        have hrc3 := hrc1.trans hrc2
        refine ⟨rfl, 24, hh, by decide, by decide, place, by rw [hF3.vlE hp]; exact hpl, ?_⟩
        refine C_isTrue hst hR2 (fun c hT => hQ _ _ _ (Or.inr (Or.inr ⟨rfl, oT.same (aRch.rf _ _ _) hs (ask_tr hpre' hrc3 hR2.2.2.2.2.2 hR2.2.2.2.1 hvZ hP c hT)⟩))) (fun c c0 s3 hR3 => ⟨_, rfl, fun _ => ?_, fun z => absurd rfl z⟩) (fun c c0 s3 hR3 => ⟨_, rfl, fun z => absurd z (by decide), fun _ => ?_⟩)
        · have hrc4 := hrc3.trans (ask_ok (fuel := fuel) (sh := sh2) (out := out2) hpre' hR2.2.2.2.2.2 hR2.2.2.2.1 hvZ hP c)
          rw [if_pos c0] at hrc4
          exact vX26_act_2 ⟨fun _ => hQ _ _ _ (Or.inl ⟨rfl, fr', sh2, ct2, out2, hs, by omega, hrc4, hR3⟩), fun z => absurd rfl z⟩
        · have hrc4 := hrc3.trans (ask_ok (fuel := fuel) (sh := sh2) (out := out2) hpre' hR2.2.2.2.2.2 hR2.2.2.2.1 hvZ hP c)
          rw [if_neg c0] at hrc4
          obtain ⟨q', e2, o2, hw2⟩ := ihx nv _ (t + 1) j u h hb (d + 3) s3 f3 pl C fr' N wy sh2 ct2 out2 (by unfold KD; omega) hL' hN hpre' hR3 (fun o s14 f15 => KP o (fun r => ∃ v16 : Int32, r = some (.int v16) ∧ ((v16 = 0 → ExC l E w (d + 4) MX26_act 2 [some (.ref p), some (.ref (w.1 3)), some (.int 1)] [] s14 f15 Q) ∧ (¬ v16 = 0 → Q (.inl (some (.int 1))) s14 f15))) (fun k => Q (.inr k) s14 f15)) (fun o s' f' k => by
              rcases k with ⟨rfl, fr4, sh4, ct4, out4, k1, k2, k3, k4⟩ | ⟨rfl, k⟩ | ⟨rfl, k⟩
              · exact ⟨_, rfl, fun _ => ihn s' f' fr4 sh4 ct4 out4 (by omega) (hs.trans k1) (by omega) ((hrc4.trans k3).trans (goto_ok (hpre'.frs k1.len) k4.2.2.2.2.2 k4.2.2.2.1 hPj)) k4, fun z => absurd rfl z⟩
              · exact ⟨_, rfl, fun z => absurd z (by decide), fun _ => hQ _ _ _ (oD.after hrc4 hs (by omega) (Or.inr (Or.inl ⟨rfl, k⟩)))⟩
              · exact hQ _ _ _ (oD.after (b := b) hrc4 hs (by omega) (Or.inr (Or.inr ⟨rfl, k⟩))))
          exact ⟨hh, q', by rw [hF3.vlE hp]; exact e2, o2, hw2⟩
      · exact hQ _ _ _ (Or.inr (Or.inr ⟨rfl, oT.same hrc1 hs hT⟩))
  exact main fuel s f fr sh ct out (by omega) (aSame.rf fr) (Nat.le_refl _) (aRch.rf _ _ _) hR
end CD5
