/-! THE COMPONENT'S TREES: if -/
section CD4
variable {l : Launch} {E : EN} {w : CO} {d : Nat} {s s' s0 : CS} {f f' f0 : RH} {Q : KO → CS → RH → Prop} {fuel : Nat} {Bb : Nat × Nat} {P : Pg} {F : Nat → Nat} {C pl A : List Th} {fr fr' : List Fm} {N : List Nat} {wy : List Wy} {sh sh' : Nat → Option Th} {ct ct' : Ct} {out out' : List Int32} {a b t h u L p g M nv x y : Nat} {z place : Int32} {v : Th}
theorem doA_ask {e : Nat} (hP : P.1 t = (14, e, x, z, place)) : doA P fuel (t, v :: pl, fr, wy, sh, ct, out, (0, -1, 0)) = if zk v ≠ 0 then (t + 1, pl, fr, wy, sh, ct, out, (3, place, 0)) else ((if zv v = 0 then e else t + 1), pl, fr, wy, sh, ct, out, (0, -1, 0)) := by
  have h1 : (P.1 t).1 = 14 := by rw [hP]
  show (if (P.1 t).1 = 1 ∨ (P.1 t).1 = 16 then _ else if (P.1 t).1 = 2 then _ else if (P.1 t).1 = 3 then _ else if (P.1 t).1 < 11 then _ else if (P.1 t).1 = 11 then _ else if (P.1 t).1 = 12 then _ else if (P.1 t).1 = 13 then _ else if (P.1 t).1 = 14 then (if zk v ≠ 0 then (t + 1, pl, fr, wy, sh, ct, out, (3, (P.1 t).2.2.2.2, 0)) else ((if zv v = 0 then (P.1 t).2.1 else t + 1), pl, fr, wy, sh, ct, out, (0, -1, 0))) else _) = _
  rw [if_neg (by omega), if_neg (by omega), if_neg (by omega), if_neg (by omega), if_neg (by omega), if_neg (by omega), if_neg (by omega), if_pos h1, hP]
theorem doA_goto {e y : Nat} {z1 : Int32} (hP : P.1 t = (15, e, y, z, z1)) : doA P fuel (t, pl, fr, wy, sh, ct, out, (0, -1, 0)) = (e, pl, fr, wy, sh, ct, out, (0, -1, 0)) := by
  have h1 : (P.1 t).1 = 15 := by rw [hP]
  show (if (P.1 t).1 = 1 ∨ (P.1 t).1 = 16 then _ else if (P.1 t).1 = 2 then _ else if (P.1 t).1 = 3 then _ else if (P.1 t).1 < 11 then _ else if (P.1 t).1 = 11 then _ else if (P.1 t).1 = 12 then _ else if (P.1 t).1 = 13 then _ else if (P.1 t).1 = 14 then _ else if (P.1 t).1 = 15 then ((P.1 t).2.1, pl, fr, wy, sh, ct, out, (0, -1, 0)) else _) = _
  rw [if_neg (by omega), if_neg (by omega), if_neg (by omega), if_neg (by omega), if_neg (by omega), if_neg (by omega), if_neg (by omega), if_neg (by omega), if_pos h1, hP]
theorem goto_ok {e y : Nat} {z1 : Int32} (hpre : aPre C pl fr wy h u L) (hf : 1 ≤ fr.length ∧ fr.length ≤ 10) (hm : ct.2.1 ≤ 3000) (hP : P.1 t = (15, e, y, z, z1)) : aRch P fuel (t, pl, fr, wy, sh, ct, out, (0, -1, 0)) (e, pl, fr, wy, sh, ct, out, (0, -1, 0)) := by
  have hd := doA_goto (fuel := fuel) (pl := pl) (fr := fr) (wy := wy) (sh := sh) (ct := ct) (out := out) hP
  refine one_ok (good0 (k := 15) hpre hf hm (by rw [hP]) (by decide) (by rw [hP]; rfl) ?_) hd rfl
  rw [hd]; exact fun z => absurd rfl z
/-- the question: what both sides make of it -/
theorem ask_ok {e : Nat} (hpre : aPre C pl fr wy h u L) (hf : 1 ≤ fr.length ∧ fr.length ≤ 10) (hm : ct.2.1 ≤ 3000) (hv : ZW v) (hP : P.1 t = (14, e, x, z, place)) (hk : zk v = 0) : aRch P fuel (t, v :: pl, fr, wy, sh, ct, out, (0, -1, 0)) ((if zv v = 0 then e else t + 1), pl, fr, wy, sh, ct, out, (0, -1, 0)) := by
  have hd := doA_ask (fuel := fuel) (v := v) (pl := pl) (fr := fr) (wy := wy) (sh := sh) (ct := ct) (out := out) hP
  rw [if_neg (fun z => z hk)] at hd
  refine one_ok (good1 (k := 14) hpre hv hf hm (by rw [hP]) (by decide) (by rw [hP]; exact Nat.le_refl 1) ?_) hd rfl
  rw [hd]; exact fun z => absurd rfl z
theorem ask_tr {e : Nat} {σ : AS} (hpre : aPre C pl fr wy h u L) (hr : aRch P fuel σ (t, v :: pl, fr, wy, sh, ct, out, (0, -1, 0))) (hf : 1 ≤ fr.length ∧ fr.length ≤ 10) (hm : ct.2.1 ≤ 3000) (hv : ZW v) (hP : P.1 t = (14, e, x, z, place)) (hk : ¬ zk v = 0) (hT : cT E f0 s0 fuel Bb C fr N sh ct out (3, place, 0) s' f') : oT E f0 s0 fuel Bb P σ C pl fr N wy s' f' := by
  have hd := doA_ask (fuel := fuel) (v := v) (pl := pl) (fr := fr) (wy := wy) (sh := sh) (ct := ct) (out := out) hP
  rw [if_pos hk] at hd
  refine ⟨_, t + 1, pl, fr, fr, wy, sh, ct, out, (3, place, 0), hr, good1 (k := 14) hpre hv hf hm (by rw [hP]) (by decide) (by rw [hP]; exact Nat.le_refl 1) ?_, hT, rfl, rfl, Or.inl ⟨by show 1 ≤ 3; decide, by show 3 ≤ 9; decide, hd, ⟨[], rfl⟩, ⟨[], rfl⟩, [], rfl, fun q hq => absurd hq List.not_mem_nil⟩⟩
  rw [hd]; exact fun _ => ⟨Nat.le_refl _, Nat.le_refl _, fun q hq _ => hq⟩
theorem nb_0 : narrow .boolean (.int 0) = .int 0 := by decide
theorem nb_1 : narrow .boolean (.int 1) = .int 1 := by decide
theorem X_if (hst : l.stackTraces = false) {e : Nat} (ih : NSp l E w f0 s0 fuel Bb P F M L g) (ihx : XSp l E w f0 s0 fuel Bb P F M L g) (hp : p < f0.2.2.2) (ho : oc f0 p 14) (hpl : vl f0 p 161 = .int place) (hr : RepN f0 P F M nv g (vl f0 p 162) a t h) (hP : P.1 t = (14, e, x, z, place))
    (hb : (vl f0 p 164 = .null ∧ RepX f0 P F M nv g false (vl f0 p 163) (t + 1) e u h ∧ b = e) ∨ (∃ (j x1 : Nat) (z1 z2 : Int32) (q : Nat), vl f0 p 164 = .ref q ∧ RepX f0 P F M nv g false (vl f0 p 163) (t + 1) j u h ∧ P.1 j = (15, b, x1, z1, z2) ∧ e = j + 1 ∧ RepX f0 P F M nv g false (vl f0 p 164) e b u h))
    (hd : KD L (g + 1) ≤ d) (hL : fr.length + L = 10) (hN : N.head? = some nv) (hpre : aPre C pl fr wy h (u + 1) L) (hR : cR E f0 s0 fuel Bb C fr N sh ct out s f) (hQ : ∀ o s' f', oD E f0 s0 fuel Bb P a b C pl fr N wy sh ct out o s' f' → Q o s' f') : EvC l E w d MX15_act [.ref p, .ref (w.1 3)] s f Q := by
  unfold KD at hd
  obtain ⟨d, rfl⟩ : ∃ d', d = d' + 4 := ⟨d - 4, by omega⟩
  have hF := hR.frz
  obtain ⟨p', e1, hw⟩ := ih nv _ a t h hr (d + 3) s f pl C fr N wy sh ct out (by unfold KD; omega) hL hN hpre.u1 hR _ (fun o s' f' q => q)
  refine eX15_act hst ⟨hF.ocE hp ho, p', by rw [hF.vlE hp]; exact e1, _, ?_, hw⟩
  rintro o s2 f3 (⟨rfl, v, sh2, ct2, out2, hct2, hrc2, hR2⟩ | ⟨rfl, hT⟩)
  · have hF3 := hR2.frz
    have hh := hF3.ocE hp ho
    obtain ⟨-, -, -, hvZ⟩ := hR2.hi
    refine ⟨rfl, 14, hh, by decide, by decide, place, by rw [hF3.vlE hp]; exact hpl, ?_⟩
    refine C_isTrue hst hR2 (fun c hT => hQ _ _ _ (Or.inr (Or.inr ⟨rfl, ask_tr hpre hrc2 hR2.2.2.2.2.2 hR2.2.2.2.1 hvZ hP c hT⟩))) (fun c c0 s1 hR1 => ⟨_, rfl, fun _ => ?_, fun z => absurd rfl z⟩) (fun c c0 s1 hR1 => ⟨_, rfl, fun z => absurd z (by decide), fun _ => ?_⟩)
    · have hrc3 := hrc2.trans (ask_ok (fuel := fuel) (sh := sh2) (out := out2) hpre hR2.2.2.2.2.2 hR2.2.2.2.1 hvZ hP c)
      rw [if_pos c0] at hrc3
      rcases hb with ⟨b1, b2, rfl⟩ | ⟨j, x1, z1, z2, q, b1, b2, b3, b4, b5⟩
      · refine ⟨hh, .null, by rw [hF3.vlE hp]; exact b1, rfl, fun _ => hQ _ _ _ (Or.inl ⟨rfl, fr, sh2, ct2, out2, aSame.rf fr, hct2, hrc3, hR1⟩), fun a e => by cases e⟩
      · obtain ⟨q', e2, o2, hw2⟩ := ihx nv _ e b u h b5 (d + 3) s1 f3 pl C fr N wy sh2 ct2 out2 (by unfold KD; omega) hL hN hpre hR1 (fun o s12 f13 => KP o (fun r => ∃ v15 : Int32, r = some (.int v15) ∧ ((v15 = 0 → Q (.inl (some (.int 0))) s12 f13) ∧ (¬ v15 = 0 → Q (.inl (some (.int 1))) s12 f13))) (fun k => Q (.inr k) s12 f13)) (fun o s' f' k => by
            have k' := hQ _ _ _ (oD.after hrc3 (aSame.rf fr) hct2 k)
            rcases k with ⟨rfl, -⟩ | ⟨rfl, -⟩ | ⟨rfl, -⟩
            · exact ⟨_, rfl, fun _ => k', fun z => absurd rfl z⟩
            · exact ⟨_, rfl, fun z => absurd z (by decide), fun _ => k'⟩
            · exact k')
        have hv9 : vl f3 p 164 = .ref q' := by rw [hF3.vlE hp]; exact e2
        exact ⟨hh, .ref q', hv9, rfl, fun z => (by cases z), fun a ea => ⟨hh, .ref q', hv9, rfl, q', rfl, o2, hw2⟩⟩
    · have hrc3 := hrc2.trans (ask_ok (fuel := fuel) (sh := sh2) (out := out2) hpre hR2.2.2.2.2.2 hR2.2.2.2.1 hvZ hP c)
      rw [if_neg c0] at hrc3
      have then_ : ∀ j, RepX f0 P F M nv g false (vl f0 p 163) (t + 1) j u h → (∀ o s' f', oD E f0 s0 fuel Bb P a j C pl fr N wy sh ct out o s' f' → oD E f0 s0 fuel Bb P a b C pl fr N wy sh ct out o s' f') → ∃ a17 : Nat, vl f3 p 163 = .ref a17 ∧ (oc f3 a17 13 ∧ EvC l E w (d + 3) MX13_act [.ref a17, .ref (w.1 3)] s1 f3 (fun o s18 f19 => KP o (fun r => ∃ v20 : Int32, r = some (.int v20) ∧ (narrow .boolean (.int v20) = .int v20 ∧ Q (.inl (some (.int v20))) s18 f19)) (fun k => Q (.inr k) s18 f19))) := by
        intro j hj hup
        obtain ⟨q', e2, o2, hw2⟩ := ihx nv _ (t + 1) j u h hj (d + 3) s1 f3 pl C fr N wy sh2 ct2 out2 (by unfold KD; omega) hL hN hpre hR1 (fun o s18 f19 => KP o (fun r => ∃ v20 : Int32, r = some (.int v20) ∧ (narrow .boolean (.int v20) = .int v20 ∧ Q (.inl (some (.int v20))) s18 f19)) (fun k => Q (.inr k) s18 f19)) (fun o s' f' k => by
            have k' := hQ _ _ _ (hup _ _ _ (oD.after hrc3 (aSame.rf fr) hct2 k))
            rcases k with ⟨rfl, -⟩ | ⟨rfl, -⟩ | ⟨rfl, -⟩
            · exact ⟨_, rfl, nb_0, k'⟩
            · exact ⟨_, rfl, nb_1, k'⟩
            · exact k')
        exact ⟨q', by rw [hF3.vlE hp]; exact e2, o2, hw2⟩
      rcases hb with ⟨b1, b2, rfl⟩ | ⟨j, x1, z1, z2, q, b1, b2, b3, b4, b5⟩
      · exact ⟨hh, then_ b b2 (fun o s' f' k => k)⟩
      · refine ⟨hh, then_ j b2 (fun o s' f' k => ?_)⟩
        rcases k with ⟨rfl, fr4, sh4, ct4, out4, k1, k2, k3, k4⟩ | k | k
        · exact Or.inl ⟨rfl, fr4, sh4, ct4, out4, k1, k2, k3.trans (goto_ok (hpre.frs k1.len) k4.2.2.2.2.2 k4.2.2.2.1 b3), k4⟩
        · exact Or.inr (Or.inl k)
        · exact Or.inr (Or.inr k)
  · exact hQ _ _ _ (Or.inr (Or.inr ⟨rfl, hT⟩))
end CD4
