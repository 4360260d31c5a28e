/-! THE COMPONENT'S TREES: say -/
section CD8
variable {l : Launch} {E : EN} {w : CO} {d : Nat} {s s' s0 : CS} {f f' f0 : RH} {Q : KO → CS → RH → Prop} {fuel : Nat} {Bb Bb' : Nat × Nat} {P : Pg} {F : Nat → Nat} {C pl A : List Th} {fr fr' : List Fm} {N : List Nat} {wy : List Wy} {sh sh' : Nat → Option Th} {ct ct' : Ct} {out out' : List Int32} {a b t j e n h h' u u' L p g M nv x y x1 x2 : Nat} {z z1 z2 z3 place on : Int32} {v : Th}
theorem cR.outs (h : cR E f0 s0 fuel Bb C fr N sh ct out s f) (hf : cfO s s') (ho : cOut s' out') (h1 : Bb.1 = Bb'.1) (hk : out'.length + Bb'.2 ≤ 9000 * ct.1) : cR E f0 s0 fuel Bb' C fr N sh ct out' s' f := by
  obtain ⟨x, y⟩ := Bb
  obtain ⟨x', y'⟩ := Bb'
  have h1 : x = x' := h1
  subst h1
  obtain ⟨hi, hr, hA, hB⟩ := hf
  obtain ⟨⟨h1, h2, h3, ⟨a1, a2, a3, a4, a5⟩, ⟨c1, c2, c3, c4⟩, -, ⟨k1, k2, k3, k4⟩, he⟩, g1, g2, g⟩ := h
  refine ⟨⟨⟨h1.1, h1.2.1, fun i hi' => ?_⟩, cFr.mv (s := s) (s' := s') (Frz.rf f) (hA 27 (by decide)) (by rw [hB]) (hA 29 (by decide)) h2, fun k hk' => ?_, ⟨by rw [hi 37 (by decide)]; exact a1, by rw [hi 38 (by decide)]; exact a2, by rw [hi 39 (by decide)]; exact a3, by rw [hi 40 (by decide)]; exact a4, by rw [hi 41 (by decide)]; exact a5⟩, ⟨c1, c2, c3, hk⟩, ho, ⟨fun j hj => ?_, hr.trans k2, fun j hj => ?_, fun j hj => by rw [hB]; exact k4 j hj⟩, he⟩, by rw [hi 26 (by decide)]; exact g1, by rw [hi 36 (by decide)]; exact g2, g⟩
  · rw [hA 24 (by decide), hB]
    exact h1.2.2 i hi'
  · rw [hA 46 (by decide), hA 42 (by decide), hB]
    exact h3 k hk'
  · rw [hi j (fun z => hj (by rw [z]; decide))]
    exact k1 j hj
  · rw [hA j (fun z => hj (by rw [z]; decide))]
    exact k3 j hj
theorem C_say (hst : l.stackTraces = false) (h : cR E f0 s0 fuel Bb' (C ++ [v]) fr N sh ct out s f) (h1 : Bb'.1 = Bb.1) (hk : Bb.2 + 9000 ≤ Bb'.2) (hQ : ∀ s1, cR E f0 s0 fuel Bb C fr N sh ct (out ++ zform 0 v ++ [10]) s1 f → Q (.inl none) s1 f) : EvC l E w (d + 8) MX3_say [.ref (w.1 3)] s f Q := by
  obtain ⟨hl, e26, hv, hZ⟩ := h.hi
  have hR0 := h.drop
  have hfl := zform_le hZ
  have hc := h.1.2.2.2.2.1
  have hfu := h.1.2.2.2.2.2.2.2.2.2.2.1
  have ho0 : cOut (uI s 26 (nI C.length)) out := h.1.2.2.2.2.2.1
  have fin : ∀ s2, cfO (uI s 26 (nI C.length)) s2 → cOut s2 (out ++ zform 0 v) → EvC l E w (d + 7) MX8_sign [.ref (w.1 8), .int 10] s2 f (fun o s11 f12 => KP o (fun r => r = none ∧ Q (.inl none) s11 f12) (fun k => Q (.inr k) s11 f12)) := by
    intro s2 r1 r2
    refine C_sign hst r2 (by rw [List.length_append]; omega) (fun s3 t1 t2 => ⟨rfl, hQ s3 (hR0.outs (r1.trans t1) t2 h1 ?_)⟩)
    rw [List.length_append, List.length_append]
    show out.length + _ + 1 + Bb.2 ≤ _
    omega
  refine eX3_say hst ?_
  rw [e26, nI_pred, nI_clamp (n := C.length) (by omega)]
  refine ⟨inB_n (by omega), _, rfl, hv.isR, fun e => ?_, fun p e => ?_⟩
  · rcases hv.cls with ⟨c0, c1, c2⟩ | ⟨p, c1, _⟩
    · rw [c2]
      have ex : zform 0 v = znum (zv v) := by rw [zk0 c0]; rfl
      rw [ex] at fin hfl
      exact ⟨inB_n (by omega), C_number hst ho0 (by omega) (fun s2 r1 r2 => ⟨rfl, fin s2 r1 r2⟩)⟩
    · rw [e] at c1; cases c1
  · rcases hv.cls with ⟨c0, c1, c2⟩ | ⟨p', c1, c2, c3, c4, hp⟩
    · rw [e] at c1; cases c1
    have hd4 : zd v ≤ 4 := by
      rcases zcases hZ with ⟨v, rfl⟩ | ⟨a, rfl, h3⟩ | ⟨a, rfl, h3, h4, _⟩ | ⟨l, rfl, h3, h4, h5, _⟩
      · exact Nat.zero_le _
      · exact Nat.zero_le _
      · exact Nat.zero_le _
      · rw [zd_zP]; omega
    obtain ⟨y, y1, hw⟩ := C_form (l := l) (E := E) (w := w) (f := f) (b := f.2.2.2) hst v hZ (d + 7) (uI s 26 (nI C.length)) out _ (fun o s2 f2 => o = .inl none ∧ f2 = f ∧ cfO (uI s 26 (nI C.length)) s2 ∧ cOut s2 (out ++ zform 0 v)) (by omega) hp ho0 (by omega) (fun s2 r1 r2 => ⟨rfl, rfl, r1, r2⟩)
    refine ⟨inB_n (by omega), _, rfl, hv.isR, y, y1, _, ?_, hw⟩
    rintro o s2 f2 ⟨rfl, rfl, r1, r2⟩
    exact ⟨rfl, fin s2 r1 r2⟩
theorem X_say (hst : l.stackTraces = false) (ih : NSp l E w f0 s0 fuel (Bb.1, Bb.2 + 9000) P F M L g) (hp : p < f0.2.2.2) (ho : oc f0 p 26) (hhow : vl f0 p 190 = .int (nI 1)) (hr : RepN f0 P F M nv g (vl f0 p 191) a t h) (hP : P.1 t = (19, x, y, z, place)) (hd : KD L (g + 1) ≤ d) (hL : fr.length + L = 10) (hN : N.head? = some nv) (hpre : aPre C pl fr wy h (u + 1) L) (hR : cR E f0 s0 fuel (Bb.1, Bb.2 + 9000) C fr N sh ct out s f) (hQ : ∀ o s' f', oD E f0 s0 fuel Bb P a (t + 1) C pl fr N wy sh ct out o s' f' → Q o s' f') : EvC l E w d MX28_act [.ref p, .ref (w.1 3)] s f Q := by
  unfold KD at hd
  obtain ⟨d, rfl⟩ : ∃ d', d = d' + 9 := ⟨d - 9, by omega⟩
  have hF := hR.frz
  have h1 : (P.1 t).1 = 19 := by rw [hP]
  obtain ⟨p', e1, hw⟩ := ih nv _ a t h hr (d + 8) s f pl C fr N wy sh ct out (by unfold KD; omega) hL hN hpre.u1 hR _ (fun o s' f' q => q)
  refine eX28_act hst ⟨hF.ocE hp ho, p', by rw [hF.vlE hp]; exact e1, _, ?_, hw⟩
  rintro o s2 f3 (⟨rfl, v, sh2, ct2, out2, hct2, hrc2, hR2⟩ | ⟨rfl, hT⟩)
  · have hF3 := hR2.frz
    have hh := hF3.ocE hp ho
    have hw9 : vl f3 p 190 = .int (nI 1) := by rw [hF3.vlE hp]; exact hhow
    have hvZ := hR2.hi.2.2.2
    have hc := hR2.1.2.2.2.2.1
    have hfu := hR2.1.2.2.2.2.2.2.2.2.2.2.1
    have hc4 : out2.length + (Bb.2 + 9000) ≤ 9000 * ct2.1 := hc.2.2.2
    have hfl := zform_le hvZ
    refine ⟨rfl, hh, nI 1, hw9, fun _ => ⟨hh, nI 1, hw9, fun c => absurd rfl c, fun _ => ?_⟩, fun c => absurd c (by decide)⟩
    refine C_say (Bb := Bb) hst hR2 rfl (Nat.le_refl _) (fun s1 hR1 => ⟨rfl, hQ _ _ _ (Or.inl ⟨rfl, fr, sh2, ct2, _, aSame.rf fr, hct2, hrc2.trans ?_, hR1⟩)⟩)
    have hdo : doA P fuel (t, v :: pl, fr, wy, sh2, ct2, out2, (0, -1, 0)) = (t + 1, pl, fr, wy, sh2, ct2, out2 ++ zform 0 v ++ [10], (0, -1, 0)) := by
      show (if (P.1 t).1 = 1 ∨ (P.1 t).1 = 16 then _ else if (P.1 t).1 = 2 then _ else if (P.1 t).1 = 3 then _ else if (P.1 t).1 < 11 then _ else if (P.1 t).1 = 11 then _ else if (P.1 t).1 = 12 then _ else if (P.1 t).1 = 13 then _ else if (P.1 t).1 = 14 then _ else if (P.1 t).1 = 15 then _ else if (P.1 t).1 = 17 then _ else if (P.1 t).1 = 18 then _ else if (P.1 t).1 = 19 then (t + 1, pl, fr, wy, sh2, ct2, out2 ++ zform 0 v ++ [10], (0, -1, 0)) else _) = _
      rw [if_neg (by omega), if_neg (by omega), if_neg (by omega), if_neg (by omega), if_neg (by omega), if_neg (by omega), if_neg (by omega), if_neg (by omega), if_neg (by omega), if_neg (by omega), if_neg (by omega), if_pos h1]
    refine one_ok (hpre.good (A := [v]) (fun x hx => by rw [List.mem_singleton.mp hx]; exact hvZ) (by show 1 ≤ h + 100; omega) hR2.2.2.2.2.2 hR2.2.2.2.1 ?_ ?_) hdo rfl
    · refine ⟨by omega, by rw [hP]; exact Nat.le_add_left _ _, fun z => by omega, fun z => by omega, fun z => by omega, fun z => by omega, fun _ => ?_⟩
      show out2.length + (zform 0 v).length + 1 < 2 ^ 31
      omega
    · show aTk (doA P fuel (t, v :: pl, fr, wy, sh2, ct2, out2, (0, -1, 0)))
      rw [hdo]; exact fun z => absurd rfl z
  · exact hQ _ _ _ (Or.inr (Or.inr ⟨rfl, hT.le9 rfl (Nat.le_add_right ..)⟩))
end CD8
