/-! THE COMPONENT'S TREES: return, raise, a call alone: printed by a small program -/
section CD2
variable {l : Launch} {E : EN} {w : CO} {d : Nat} {s s' s0 : CS} {f f' f0 : RH} {Q : KO → CS → RH → Prop} {fuel : Nat} {Bb : Nat × Nat} {P : Pg} {F : Nat → Nat} {C pl A : List Th} {fr fr' : List Fm} {N : List Nat} {wy : List Wy} {sh sh' : Nat → Option Th} {ct ct' : Ct} {out out' : List Int32} {a b t h u L p g M nv x y : Nat} {z place : Int32}
theorem X_ret (hst : l.stackTraces = false) (ih : NSp l E w f0 s0 fuel Bb P F M L g) (hp : p < f0.2.2.2) (ho : oc f0 p 26) (hpl : vl f0 p 161 = .int place) (hhow : vl f0 p 190 = .int (nI 2)) (hr : RepN f0 P F M nv g (vl f0 p 191) a t h) (hP : P.1 t = (20, x, y, z, place)) (hd : KD L (g + 1) ≤ d) (hL : fr.length + L = 10) (hN : N.head? = some nv) (hpre : aPre C pl fr wy h (u + 1) L) (hR : cR E f0 s0 fuel Bb C fr N sh ct out s f) (hQ : ∀ o s' f', oD E f0 s0 fuel Bb P a (t + 1) C pl fr N wy sh ct out o s' f' → Q o s' f') : EvC l E w d MX28_act [.ref p, .ref (w.1 3)] s f Q := by
  unfold KD at hd
  obtain ⟨d, rfl⟩ : ∃ d', d = d' + 4 := ⟨d - 4, by omega⟩
  have hF := hR.frz
  have h1 : (P.1 t).1 = 20 := by rw [hP]
  obtain ⟨p', e1, hw⟩ := ih nv _ a t h hr (d + 3) s f pl C fr N wy sh ct out (by unfold KD; omega) hL hN hpre.u1 hR _ (fun o s' f' q => q)
  refine eX28_act hst ⟨hF.ocE hp ho, p', by rw [hF.vlE hp]; exact e1, _, ?_, hw⟩
  rintro o s2 f3 (⟨rfl, v, sh2, ct2, out2, hct2, hrc2, hR2⟩ | ⟨rfl, hT⟩)
  · have hF3 := hR2.frz
    have hh := hF3.ocE hp ho
    have hw9 : vl f3 p 190 = .int (nI 2) := by rw [hF3.vlE hp]; exact hhow
    exact ⟨rfl, hh, nI 2, hw9, fun c => absurd rfl c, fun _ => hQ _ _ _ (Or.inr (Or.inl ⟨rfl, t, v, fr, [], sh2, ct2, out2, aSame.rf fr, hct2, h1, by have := hpre.2.2.2.1; show 0 + wy.length ≤ 389; omega, hrc2, hR2⟩))⟩
  · exact hQ _ _ _ (Or.inr (Or.inr ⟨rfl, hT⟩))
theorem X_alone (hst : l.stackTraces = false) (ih : NSp l E w f0 s0 fuel Bb P F M L g) (hp : p < f0.2.2.2) (ho : oc f0 p 26) (hpl : vl f0 p 161 = .int place) (hhow : vl f0 p 190 = .int (nI 4)) (hr : RepN f0 P F M nv g (vl f0 p 191) a t h) (hP : P.1 t = (22, x, y, z, place)) (hd : KD L (g + 1) ≤ d) (hL : fr.length + L = 10) (hN : N.head? = some nv) (hpre : aPre C pl fr wy h (u + 1) L) (hR : cR E f0 s0 fuel Bb C fr N sh ct out s f) (hQ : ∀ o s' f', oD E f0 s0 fuel Bb P a (t + 1) C pl fr N wy sh ct out o s' f' → Q o s' f') : EvC l E w d MX28_act [.ref p, .ref (w.1 3)] s f Q := by
  unfold KD at hd
  obtain ⟨d, rfl⟩ : ∃ d', d = d' + 4 := ⟨d - 4, by omega⟩
  have hF := hR.frz
  have h1 : (P.1 t).1 = 22 := by rw [hP]
  obtain ⟨p', e1, hw⟩ := ih nv _ a t h hr (d + 3) s f pl C fr N wy sh ct out (by unfold KD; omega) hL hN hpre.u1 hR _ (fun o s' f' q => q)
  refine eX28_act hst ⟨hF.ocE hp ho, p', by rw [hF.vlE hp]; exact e1, _, ?_, hw⟩
  rintro o s2 f3 (⟨rfl, v, sh2, ct2, out2, hct2, hrc2, hR2⟩ | ⟨rfl, hT⟩)
  · have hF3 := hR2.frz
    have hh := hF3.ocE hp ho
    have hw9 : vl f3 p 190 = .int (nI 4) := by rw [hF3.vlE hp]; exact hhow
    refine ⟨rfl, hh, nI 4, hw9, fun _ => ⟨hh, nI 4, hw9, fun _ => ⟨hh, nI 4, hw9, fun _ => ?_, fun c => absurd c (by decide)⟩, fun c => absurd c (by decide)⟩, fun c => absurd c (by decide)⟩
    refine C_drop1 hst hR2 (fun s1 hR1 => ⟨rfl, hQ _ _ _ (Or.inl ⟨rfl, fr, sh2, ct2, out2, aSame.rf fr, hct2, hrc2.trans ?_, hR1⟩)⟩)
    have hdo : doA P fuel (t, v :: pl, fr, wy, sh2, ct2, out2, (0, -1, 0)) = (t + 1, pl, fr, wy, sh2, ct2, out2, (0, -1, 0)) := by
      show (if (P.1 t).1 = 1 ∨ (P.1 t).1 = 16 then _ else if (P.1 t).1 = 2 then _ else if (P.1 t).1 = 3 then _ else if (P.1 t).1 < 11 then _ else if (P.1 t).1 = 11 then _ else if (P.1 t).1 = 12 then _ else if (P.1 t).1 = 13 then _ else if (P.1 t).1 = 14 then _ else if (P.1 t).1 = 15 then _ else if (P.1 t).1 = 17 then _ else if (P.1 t).1 = 18 then _ else if (P.1 t).1 = 19 then _ else if (P.1 t).1 = 20 then _ else if (P.1 t).1 = 21 then _ else if (P.1 t).1 = 22 then (t + 1, pl, fr, wy, sh2, ct2, out2, (0, -1, 0)) else _) = _
      rw [if_neg (by omega), if_neg (by omega), if_neg (by omega), if_neg (by omega), if_neg (by omega), if_neg (by omega), if_neg (by omega), if_neg (by omega), if_neg (by omega), if_neg (by omega), if_neg (by omega), if_neg (by omega), if_neg (by omega), if_neg (by omega), if_pos h1]
    refine one_ok (good1 hpre hR2.hi.2.2.2 hR2.2.2.2.2.2 hR2.2.2.2.1 h1 (by decide) (by rw [hP]; exact Nat.le_refl 1) ?_) hdo rfl
    rw [hdo]
    exact fun z => absurd rfl z
  · exact hQ _ _ _ (Or.inr (Or.inr ⟨rfl, hT⟩))
theorem X_raise (hst : l.stackTraces = false) (ih : NSp l E w f0 s0 fuel Bb P F M L g) (hp : p < f0.2.2.2) (ho : oc f0 p 26) (hpl : vl f0 p 161 = .int place) (hhow : vl f0 p 190 = .int (nI 3)) (hr : RepN f0 P F M nv g (vl f0 p 191) a t h) (hP : P.1 t = (21, x, y, z, place)) (hd : KD L (g + 1) ≤ d) (hL : fr.length + L = 10) (hN : N.head? = some nv) (hpre : aPre C pl fr wy h (u + 1) L) (hR : cR E f0 s0 fuel Bb C fr N sh ct out s f) (hQ : ∀ o s' f', oD E f0 s0 fuel Bb P a (t + 1) C pl fr N wy sh ct out o s' f' → Q o s' f') : EvC l E w d MX28_act [.ref p, .ref (w.1 3)] s f Q := by
  unfold KD at hd
  obtain ⟨d, rfl⟩ : ∃ d', d = d' + 4 := ⟨d - 4, by omega⟩
  have hF := hR.frz
  have h1 : (P.1 t).1 = 21 := by rw [hP]
  obtain ⟨p', e1, hw⟩ := ih nv _ a t h hr (d + 3) s f pl C fr N wy sh ct out (by unfold KD; omega) hL hN hpre.u1 hR _ (fun o s' f' q => q)
  refine eX28_act hst ⟨hF.ocE hp ho, p', by rw [hF.vlE hp]; exact e1, _, ?_, hw⟩
  rintro o s2 f3 (⟨rfl, v, sh2, ct2, out2, hct2, hrc2, hR2⟩ | ⟨rfl, hT⟩)
  · have hF3 := hR2.frz
    have hh := hF3.ocE hp ho
    have hw9 : vl f3 p 190 = .int (nI 3) := by rw [hF3.vlE hp]; exact hhow
    refine ⟨rfl, hh, nI 3, hw9, fun _ => ⟨hh, nI 3, hw9, fun _ => ⟨hh, nI 3, hw9, fun c => absurd rfl c, fun _ => ⟨26, hh, by decide, by decide, place, by rw [hF3.vlE hp]; exact hpl, ?_⟩⟩, fun c => absurd c (by decide)⟩, fun c => absurd c (by decide)⟩
    have hdo : doA P fuel (t, v :: pl, fr, wy, sh2, ct2, out2, (0, -1, 0)) = (t + 1, pl, fr, wy, sh2, ct2, out2, (if zk v ≠ 0 then (3, place, 0) else (9, place, zv v))) := by
      show (if (P.1 t).1 = 1 ∨ (P.1 t).1 = 16 then _ else if (P.1 t).1 = 2 then _ else if (P.1 t).1 = 3 then _ else if (P.1 t).1 < 11 then _ else if (P.1 t).1 = 11 then _ else if (P.1 t).1 = 12 then _ else if (P.1 t).1 = 13 then _ else if (P.1 t).1 = 14 then _ else if (P.1 t).1 = 15 then _ else if (P.1 t).1 = 17 then _ else if (P.1 t).1 = 18 then _ else if (P.1 t).1 = 19 then _ else if (P.1 t).1 = 20 then _ else if (P.1 t).1 = 21 then (t + 1, pl, fr, wy, sh2, ct2, out2, (if zk v ≠ 0 then (3, (P.1 t).2.2.2.2, 0) else (9, (P.1 t).2.2.2.2, zv v))) else _) = _
      rw [if_neg (by omega), if_neg (by omega), if_neg (by omega), if_neg (by omega), if_neg (by omega), if_neg (by omega), if_neg (by omega), if_neg (by omega), if_neg (by omega), if_neg (by omega), if_neg (by omega), if_neg (by omega), if_neg (by omega), if_pos h1, hP]
    have hg := good1 (fuel := fuel) (sh := sh2) (out := out2) hpre hR2.hi.2.2.2 hR2.2.2.2.2.2 hR2.2.2.2.1 h1 (by decide) (by rw [hP]; exact Nat.le_refl 1) (by rw [hdo]; exact fun _ => ⟨Nat.le_refl _, Nat.le_refl _, fun q hq _ => hq⟩)
    refine C_raise hst hR2 (fun c hT => ?_) (fun c s1 hT => ?_)
    · rw [if_pos c] at hdo
      exact hQ _ _ _ (Or.inr (Or.inr ⟨rfl, _, t + 1, pl, fr, fr, wy, sh2, ct2, out2, (3, place, 0), hrc2, hg, hT, rfl, rfl, Or.inl ⟨by show 1 ≤ 3; decide, by show 3 ≤ 9; decide, hdo, ⟨[], rfl⟩, ⟨[], rfl⟩, [], rfl, fun q hq => absurd hq List.not_mem_nil⟩⟩))
    · rw [if_neg (fun z => z c)] at hdo
      exact hQ _ _ _ (Or.inr (Or.inr ⟨rfl, _, t + 1, pl, fr, fr, wy, sh2, ct2, out2, (9, place, zv v), hrc2, hg, hT, rfl, rfl, Or.inl ⟨by show 1 ≤ 9; decide, Nat.le_refl 9, hdo, ⟨[], rfl⟩, ⟨[], rfl⟩, [], rfl, fun q hq => absurd hq List.not_mem_nil⟩⟩))
  · exact hQ _ _ _ (Or.inr (Or.inr ⟨rfl, hT⟩))
end CD2
