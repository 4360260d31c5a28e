/-! THE COMPONENT'S TREES: N [E] = E, N [E] [E] = E: the deeds -/
section CDa
variable {l : Launch} {E : EN} {w : CO} {d : Nat} {s s' s0 : CS} {f f' f0 : RH} {Q : KO → CS → RH → Prop} {fuel : Nat} {Bb : Nat × Nat} {P : Pg} {F : Nat → Nat} {C pl A : List Th} {fr fr' : List Fm} {N : List Nat} {wy : List Wy} {sh sh' : Nat → Option Th} {ct ct' : Ct} {out out' : List Int32} {a b t t1 t2 j e n h h1 h2 u u' L p g M nv x y x1 x2 b1 : Nat} {z z1 z2 z3 place on np fp : Int32}
theorem doA_putat {m : Nat} (hP : P.1 t = (13, n, m, np, fp)) : doA P fuel (t, pl, fr, wy, sh, ct, out, (0, -1, 0)) = aputat (13, n, m, np, fp) t pl fr wy sh ct out := by
  have h1 : (P.1 t).1 = 13 := by rw [hP]
  show (if (P.1 t).1 = 1 ∨ (P.1 t).1 = 16 then _ else if (P.1 t).1 = 2 then _ else if (P.1 t).1 = 3 then _ else if (P.1 t).1 < 11 then _ else if (P.1 t).1 = 11 then _ else if (P.1 t).1 = 12 then _ else if (P.1 t).1 = 13 then aputat (P.1 t) t pl fr wy sh ct out else _) = _
  rw [if_neg (by omega), if_neg (by omega), if_neg (by omega), if_neg (by omega), if_neg (by omega), if_neg (by omega), if_pos h1, hP]
/-- what aputat makes of it, as one formula -/
def aPut (n : Nat) (np fp sp : Int32) (R : Th → (Nat × Nat) ⊕ Th) (pc : Nat) (pl : List Th) (fr : List Fm) (wy : List Wy) (sh : Nat → Option Th) (ct : Ct) (out : List Int32) : AS := match aget fr sh n with
  | none => (pc + 1, pl, fr, wy, sh, ct, out, (7, np, 0))
  | some x => match R x with
    | .inl (k, q) => (pc + 1, pl, fr, wy, sh, ct, out, (k, (if q = 0 then fp else sp), 0))
    | .inr v => if 3000 < ct.2.1 + zm v then (pc + 1, pl, fr, wy, sh, (ct.1, ct.2.1 + zm v, ct.2.2), out, (11, fp, 0))
      else (pc + 1, pl, aputF fr n v, wy, aputS sh n v, (ct.1, ct.2.1 + zm v, ct.2.2), out, (0, -1, 0))
theorem aputat_1 {i v : Th} : aputat (13, n, 0, np, fp) t (v :: i :: pl) fr wy sh ct out = aPut n np fp (nI 0) (fun x => zput1 x i v) t pl fr wy sh ct out := rfl
theorem aputat_2 {sp : Nat} {i k v : Th} : aputat (13, n, sp + 1, np, fp) t (v :: k :: i :: pl) fr wy sh ct out = aPut n np fp (nI sp) (fun x => zput2 x i k v) t pl fr wy sh ct out := rfl
/-- the order PUTAT, on both sides: what comes of it -/
theorem put_end {R : Th → (Nat × Nat) ⊕ Th} {sp : Int32} {σ : AS} (hpre : aPre C pl fr wy h u L) (hA : ∀ x ∈ A, ZW x) (hAl : A.length ≤ 3) (hf : 1 ≤ fr.length ∧ fr.length ≤ 10) (hm : ct.2.1 ≤ 3000) (hk : (P.1 t).1 = 13) (hn : aNeed (P.1 t) ≤ A.length) (hd : doA P fuel (t, A ++ pl, fr, wy, sh, ct, out, (0, -1, 0)) = aPut n np fp sp R t pl fr wy sh ct out) (hR : ∀ x k q, R x = .inl (k, q) → 1 ≤ k ∧ k ≤ 8) (hrc : aRch P fuel σ (t, A ++ pl, fr, wy, sh, ct, out, (0, -1, 0))) :
    (aget fr sh n = none → cT E f0 s0 fuel Bb C fr N sh ct out (7, np, 0) s' f' → oT E f0 s0 fuel Bb P σ C pl fr N wy s' f')
    ∧ (∀ x k q, aget fr sh n = some x → R x = .inl (k, q) → cT E f0 s0 fuel Bb C fr N sh ct out (k, (if q = 0 then fp else sp), 0) s' f' → oT E f0 s0 fuel Bb P σ C pl fr N wy s' f')
    ∧ (∀ x v, aget fr sh n = some x → R x = .inr v → 3000 < ct.2.1 + zm v → cT E f0 s0 fuel Bb C fr N sh (ct.1, ct.2.1 + zm v, ct.2.2) out (11, fp, 0) s' f' → oT E f0 s0 fuel Bb P σ C pl fr N wy s' f')
    ∧ (∀ x v, aget fr sh n = some x → R x = .inr v → ct.2.1 + zm v ≤ 3000 → aRch P fuel σ (t + 1, pl, aputF fr n v, wy, aputS sh n v, (ct.1, ct.2.1 + zm v, ct.2.2), out, (0, -1, 0))) := by
  have hg : ∀ {σ' : AS}, aPut n np fp sp R t pl fr wy sh ct out = σ' → (¬ (aT σ').1 = 0 → σ'.2.1 = pl ∧ σ'.2.2.1 = fr ∧ σ'.2.2.2.1 = wy) → aGood P fuel (t, A ++ pl, fr, wy, sh, ct, out, (0, -1, 0)) := by
    intro σ' e h
    refine hpre.good hA (by omega) hf hm (fit_of hk (by decide) (by rw [List.length_append]; omega)) (hpre.tk ?_)
    rw [hd, e]
    intro z
    obtain ⟨e1, e2, e3⟩ := h z
    rw [e1, e2, e3]
    exact ⟨Nat.le_refl _, Nat.le_refl _, fun q hq _ => hq⟩
  refine ⟨fun e hT => ?_, fun x k q e e2 hT => ?_, fun x v e e2 c hT => ?_, fun x v e e2 c => ?_⟩
  · have ed : aPut n np fp sp R t pl fr wy sh ct out = (t + 1, pl, fr, wy, sh, ct, out, (7, np, 0)) := by unfold aPut; rw [e]
    exact ⟨_, t + 1, pl, fr, fr, wy, sh, ct, out, (7, np, 0), hrc, hg ed (fun _ => ⟨rfl, rfl, rfl⟩), hT, rfl, rfl, Or.inl ⟨by show 1 ≤ 7; decide, by show 7 ≤ 9; decide, hd.trans ed, ⟨[], rfl⟩, ⟨[], rfl⟩, [], rfl, fun q hq => absurd hq List.not_mem_nil⟩⟩
  · have ed : aPut n np fp sp R t pl fr wy sh ct out = (t + 1, pl, fr, wy, sh, ct, out, (k, (if q = 0 then fp else sp), 0)) := by unfold aPut; rw [e]; dsimp only; rw [e2]
    have hk8 := hR x k q e2
    exact ⟨_, t + 1, pl, fr, fr, wy, sh, ct, out, _, hrc, hg ed (fun _ => ⟨rfl, rfl, rfl⟩), hT, rfl, rfl, Or.inl ⟨hk8.1, by show k ≤ 9; omega, hd.trans ed, ⟨[], rfl⟩, ⟨[], rfl⟩, [], rfl, fun q hq => absurd hq List.not_mem_nil⟩⟩
  · have ed : aPut n np fp sp R t pl fr wy sh ct out = (t + 1, pl, fr, wy, sh, (ct.1, ct.2.1 + zm v, ct.2.2), out, (11, fp, 0)) := by unfold aPut; rw [e]; dsimp only; rw [e2]; dsimp only; rw [if_pos c]
    have hd2 := hd.trans ed
    have hst := stA_fin (P := P) (fuel := fuel) (σ := (t, A ++ pl, fr, wy, sh, ct, out, (0, -1, 0))) (by rw [hd2]; show 9 < 11; decide)
    rw [hd2] at hst
    exact ⟨_, t + 1, pl, fr, fr, wy, sh, _, out, (11, fp, 0), hrc, hg ed (fun _ => ⟨rfl, rfl, rfl⟩), hT, rfl, rfl, Or.inr ⟨by show 10 ≤ 11; decide, Nat.le_refl 11, _, hst⟩⟩
  · have ed : aPut n np fp sp R t pl fr wy sh ct out = (t + 1, pl, aputF fr n v, wy, aputS sh n v, (ct.1, ct.2.1 + zm v, ct.2.2), out, (0, -1, 0)) := by unfold aPut; rw [e]; dsimp only; rw [e2]; dsimp only; rw [if_neg (by omega)]
    exact hrc.trans (one_ok (hg ed (fun z => absurd rfl z)) (hd.trans ed) rfl)
theorem zput1_k {i v : Th} {x : Th} {k q : Nat} (e : zput1 x i v = .inl (k, q)) : 1 ≤ k ∧ k ≤ 8 := zkd_pu1 x i v k (by unfold zpu1; rw [e])
theorem zput2_k {i v j : Th} {x : Th} {k q : Nat} (e : zput2 x i j v = .inl (k, q)) : 1 ≤ k ∧ k ≤ 8 := zkd_pu2 x i j v k (by unfold zpu2; rw [e])
theorem X_put1 (hst : l.stackTraces = false) (ih : NSp l E w f0 s0 fuel Bb P F M L g) (hp : p < f0.2.2.2) (ho : oc f0 p 28) (hnm : vl f0 p 196 = .int (nI n)) (hn : n < 8 + nv) (h201 : vl f0 p 201 = .null) (h197 : vl f0 p 197 = .int np) (h198 : vl f0 p 198 = .int fp) (hr1 : RepN f0 P F M nv g (vl f0 p 200) a t1 h) (hh1 : h1 + 1 ≤ h) (hr : RepN f0 P F M nv g (vl f0 p 202) t1 t h1) (hP : P.1 t = (13, n, 0, np, fp)) (hd : KD L (g + 1) ≤ d) (hL : fr.length + L = 10) (hN : N.head? = some nv) (hpre : aPre C pl fr wy h (u + 1) L) (hR : cR E f0 s0 fuel Bb C fr N sh ct out s f) (hQ : ∀ o s' f', oD E f0 s0 fuel Bb P a (t + 1) C pl fr N wy sh ct out o s' f' → Q o s' f') : EvC l E w d MX30_act [.ref p, .ref (w.1 3)] s f Q := by
  unfold KD at hd
  obtain ⟨d, rfl⟩ : ∃ d', d = d' + 7 := ⟨d - 7, by omega⟩
  have hF := hR.frz
  have hCl := hpre.2.2.1
  have h13 : (P.1 t).1 = 13 := by rw [hP]
  obtain ⟨p1, e1, hw1⟩ := ih nv _ a t1 h hr1 (d + 6) s f pl C fr N wy sh ct out (by unfold KD; omega) hL hN hpre.u1 hR _ (fun o s' f' q => q)
  refine eX30_act hst ⟨hF.ocE hp ho, .ref p1, by rw [hF.vlE hp]; exact e1, rfl, fun z => (by cases z), fun a2 ea2 => ⟨hF.ocE hp ho, .ref p1, by rw [hF.vlE hp]; exact e1, rfl, p1, rfl, _, ?_, hw1⟩⟩
  rintro o s2 f2 (⟨rfl, i, sh2, ct2, out2, hct2, hrc2, hR2⟩ | ⟨rfl, hT⟩)
  · have hF2 := hR2.frz
    obtain ⟨-, -, -, wi⟩ := hR2.hi
    have hpre2 : aPre (C ++ [i]) ([i].reverse ++ pl) fr wy h1 (u + 1) L := hpre.add (fun t ht => by rw [List.mem_singleton.mp ht]; exact wi) hh1
    obtain ⟨p2, e2, hw2⟩ := ih nv _ t1 t h1 hr (d + 6) s2 f2 (i :: pl) (C ++ [i]) fr N wy sh2 ct2 out2 (by unfold KD; omega) hL hN hpre2.u1 hR2 _ (fun o s' f' q => q)
    refine ⟨rfl, hF2.ocE hp ho, .null, by rw [hF2.vlE hp]; exact h201, rfl, fun _ => ⟨hF2.ocE hp ho, p2, by rw [hF2.vlE hp]; exact e2, _, ?_, hw2⟩, fun a e => by cases e⟩
    rintro o s3 f3 (⟨rfl, v, sh3, ct3, out3, hct3, hrc3, hR3⟩ | ⟨rfl, hT⟩)
    · have hF3 := hR3.frz
      obtain ⟨-, -, -, wv⟩ := hR3.hi
      rw [List.append_assoc] at hR3
      have hR3 : cR E f0 s0 fuel Bb (C ++ [i, v]) fr N sh3 ct3 out3 s3 f3 := hR3
      refine ⟨rfl, hF3.ocE hp ho, .ref p1, by rw [hF3.vlE hp]; exact e1, rfl, fun z => (by cases z), fun a5 ea5 => ?_⟩
      have hdo := (doA_putat (fuel := fuel) (pl := v :: i :: pl) (fr := fr) (wy := wy) (sh := sh3) (ct := ct3) (out := out3) hP).trans aputat_1
      have hend := fun s' f' => put_end (E := E) (f0 := f0) (s0 := s0) (Bb := Bb) (N := N) (s' := s') (f' := f') (A := [v, i]) hpre (fun x hx => by
        rcases List.mem_cons.mp hx with rfl | hx
        · exact wv
        · rw [List.mem_singleton.mp hx]; exact wi) (by show 2 ≤ 3; decide) hR3.2.2.2.2.2 hR3.2.2.2.1 h13 (by rw [hP]; exact Nat.le_refl 2) hdo (fun x k q => zput1_k) (hrc2.trans hrc3)
      refine C_change1 hst hR3 (by omega) hN hn hp ho hnm h197 h198 h201 (fun c s' f' hT => hQ _ _ _ (Or.inr (Or.inr ⟨rfl, (hend s' f').1 c hT⟩))) (fun x k q c c2 s' f' hT => hQ _ _ _ (Or.inr (Or.inr ⟨rfl, (hend s' f').2.1 x k q c c2 ?_⟩))) (fun x v' c c2 c3 s' f' hT => hQ _ _ _ (Or.inr (Or.inr ⟨rfl, (hend s' f').2.2.1 x v' c c2 c3 hT⟩))) (fun x v' c c2 c3 s' f' hR4 => ⟨rfl, hQ _ _ _ (Or.inl ⟨rfl, aputF fr n v', aputS sh3 n v', _, out3, aSame.put fr n v', ?_, (hend s' f').2.2.2 x v' c c2 c3, hR4⟩)⟩)
      · rw [zput1_q c2, if_pos rfl]; exact hT
      · show ct.1 ≤ ct3.1; omega
    · exact hQ _ _ _ (Or.inr (Or.inr ⟨rfl, oT.up (A := [i]) hrc2 hT⟩))
  · exact hQ _ _ _ (Or.inr (Or.inr ⟨rfl, hT⟩))
theorem X_put2 (hst : l.stackTraces = false) {sp q : Nat} (ih : NSp l E w f0 s0 fuel Bb P F M L g) (hp : p < f0.2.2.2) (ho : oc f0 p 28) (hnm : vl f0 p 196 = .int (nI n)) (hn : n < 8 + nv) (h201 : vl f0 p 201 = .ref q) (h197 : vl f0 p 197 = .int np) (h198 : vl f0 p 198 = .int fp) (h199 : vl f0 p 199 = .int (nI sp)) (hr1 : RepN f0 P F M nv g (vl f0 p 200) a t1 h) (hh1 : h1 + 1 ≤ h) (hr2 : RepN f0 P F M nv g (vl f0 p 201) t1 t2 h1) (hh2 : h2 + 2 ≤ h) (hr : RepN f0 P F M nv g (vl f0 p 202) t2 t h2) (hP : P.1 t = (13, n, sp + 1, np, fp)) (hd : KD L (g + 1) ≤ d) (hL : fr.length + L = 10) (hN : N.head? = some nv) (hpre : aPre C pl fr wy h (u + 1) L) (hR : cR E f0 s0 fuel Bb C fr N sh ct out s f) (hQ : ∀ o s' f', oD E f0 s0 fuel Bb P a (t + 1) C pl fr N wy sh ct out o s' f' → Q o s' f') : EvC l E w d MX30_act [.ref p, .ref (w.1 3)] s f Q := by
  unfold KD at hd
  obtain ⟨d, rfl⟩ : ∃ d', d = d' + 7 := ⟨d - 7, by omega⟩
  have hF := hR.frz
  have hCl := hpre.2.2.1
  have h13 : (P.1 t).1 = 13 := by rw [hP]
  obtain ⟨p1, e1, hw1⟩ := ih nv _ a t1 h hr1 (d + 6) s f pl C fr N wy sh ct out (by unfold KD; omega) hL hN hpre.u1 hR _ (fun o s' f' q => q)
  refine eX30_act hst ⟨hF.ocE hp ho, .ref p1, by rw [hF.vlE hp]; exact e1, rfl, fun z => (by cases z), fun a2 ea2 => ⟨hF.ocE hp ho, .ref p1, by rw [hF.vlE hp]; exact e1, rfl, p1, rfl, _, ?_, hw1⟩⟩
  rintro o s2 f2 (⟨rfl, i, sh2, ct2, out2, hct2, hrc2, hR2⟩ | ⟨rfl, hT⟩)
  · have hF2 := hR2.frz
    obtain ⟨-, -, -, wi⟩ := hR2.hi
    have hpre2 : aPre (C ++ [i]) ([i].reverse ++ pl) fr wy h1 (u + 1) L := hpre.add (fun t ht => by rw [List.mem_singleton.mp ht]; exact wi) hh1
    obtain ⟨p2, e2, hw2⟩ := ih nv _ t1 t2 h1 hr2 (d + 6) s2 f2 (i :: pl) (C ++ [i]) fr N wy sh2 ct2 out2 (by unfold KD; omega) hL hN hpre2.u1 hR2 _ (fun o s' f' q => q)
    have hv2 : vl f2 p 201 = .ref p2 := by rw [hF2.vlE hp]; exact e2
    refine ⟨rfl, hF2.ocE hp ho, .ref p2, hv2, rfl, fun z => (by cases z), fun a5 ea5 => ⟨hF2.ocE hp ho, .ref p2, hv2, rfl, p2, rfl, _, ?_, hw2⟩⟩
    rintro o s3 f3 (⟨rfl, k, sh3, ct3, out3, hct3, hrc3, hR3⟩ | ⟨rfl, hT⟩)
    · have hF3 := hR3.frz
      obtain ⟨-, -, -, wk⟩ := hR3.hi
      rw [List.append_assoc] at hR3
      have hR3 : cR E f0 s0 fuel Bb (C ++ [i, k]) fr N sh3 ct3 out3 s3 f3 := hR3
      have hpre3 : aPre (C ++ [i, k]) ([i, k].reverse ++ pl) fr wy h2 (u + 1) L := hpre.add (fun t ht => by
        rcases List.mem_cons.mp ht with rfl | ht
        · exact wi
        · rw [List.mem_singleton.mp ht]; exact wk) hh2
      obtain ⟨p3, e3, hw3⟩ := ih nv _ t2 t h2 hr (d + 6) s3 f3 (k :: i :: pl) (C ++ [i, k]) fr N wy sh3 ct3 out3 (by unfold KD; omega) hL hN hpre3.u1 hR3 _ (fun o s' f' q => q)
      refine ⟨rfl, hF3.ocE hp ho, p3, by rw [hF3.vlE hp]; exact e3, _, ?_, hw3⟩
      rintro o s4 f4 (⟨rfl, v, sh4, ct4, out4, hct4, hrc4, hR4⟩ | ⟨rfl, hT⟩)
      · have hF4 := hR4.frz
        obtain ⟨-, -, -, wv⟩ := hR4.hi
        rw [List.append_assoc] at hR4
        have hR4 : cR E f0 s0 fuel Bb (C ++ [i, k, v]) fr N sh4 ct4 out4 s4 f4 := hR4
        refine ⟨rfl, hF4.ocE hp ho, .ref p1, by rw [hF4.vlE hp]; exact e1, rfl, fun z => (by cases z), fun a5 ea5 => ?_⟩
        have hdo := (doA_putat (fuel := fuel) (pl := v :: k :: i :: pl) (fr := fr) (wy := wy) (sh := sh4) (ct := ct4) (out := out4) hP).trans aputat_2
        have hend := fun s' f' => put_end (E := E) (f0 := f0) (s0 := s0) (Bb := Bb) (N := N) (s' := s') (f' := f') (A := [v, k, i]) hpre (fun x hx => by
          rcases List.mem_cons.mp hx with rfl | hx
          · exact wv
          · rcases List.mem_cons.mp hx with rfl | hx
            · exact wk
            · rw [List.mem_singleton.mp hx]; exact wi) (by show 3 ≤ 3; decide) hR4.2.2.2.2.2 hR4.2.2.2.1 h13 (by rw [hP]; exact Nat.le_refl 3) hdo (fun x k q => zput2_k) ((hrc2.trans hrc3).trans hrc4)
        refine C_change2 hst hR4 (by omega) hN hn hp ho hnm h197 h198 h199 h201 (fun c s' f' hT => hQ _ _ _ (Or.inr (Or.inr ⟨rfl, (hend s' f').1 c hT⟩))) (fun x k q c c2 s' f' hT => hQ _ _ _ (Or.inr (Or.inr ⟨rfl, (hend s' f').2.1 x k q c c2 hT⟩))) (fun x v' c c2 c3 s' f' hT => hQ _ _ _ (Or.inr (Or.inr ⟨rfl, (hend s' f').2.2.1 x v' c c2 c3 hT⟩))) (fun x v' c c2 c3 s' f' hR5 => ⟨rfl, hQ _ _ _ (Or.inl ⟨rfl, aputF fr n v', aputS sh4 n v', _, out4, aSame.put fr n v', ?_, (hend s' f').2.2.2 x v' c c2 c3, hR5⟩)⟩)
        show ct.1 ≤ ct4.1; omega
      · exact hQ _ _ _ (Or.inr (Or.inr ⟨rfl, oT.up (A := [i, k]) (hrc2.trans hrc3) hT⟩))
    · exact hQ _ _ _ (Or.inr (Or.inr ⟨rfl, oT.up (A := [i]) hrc2 hT⟩))
  · exact hQ _ _ _ (Or.inr (Or.inr ⟨rfl, hT⟩))
/-- deeds of one height more -/
theorem DSp_step (hst : l.stackTraces = false) (ih : ∀ Bb, NSp l E w f0 s0 fuel Bb P F M L g) (ihx : ∀ Bb, XSp l E w f0 s0 fuel Bb P F M L g) : ∀ Bb, DSp l E w f0 s0 fuel Bb P F M L (g + 1) := by
  intro Bb nv v a b u h hrep d s f pl C fr N wy sh ct out hd hL hN hpre hR9 Q hQ
  have hR : cR E f0 s0 fuel Bb C fr N sh ct out s f := hR9.le9 rfl (Nat.le_add_right ..)
  have hF := hR.frz
  have ih0 := ih Bb
  have ihx0 := ihx Bb
  obtain ⟨p, pl1, rfl, hp, hpl, hh, k⟩ := hrep
  refine ⟨p, rfl, ?_⟩
  rcases k with ⟨ho, t, i, x, y, z, q1, q2, rfl, q3, q4, q5⟩ | ⟨ho, t, e, x, z, q1, q2, q3⟩ | ⟨ho, t, j, x, y, x1, x2, z, z1, z2, z3, q1, q2, q3, q4, q5, rfl⟩ | ⟨ho, t, j, n, x, y, x2, u', h', z, z1, z2, z3, q1, q2, q3, q4, q5, q6, q7, q8, q9, rfl⟩ | ⟨ho, j, e, n, x, u', z, z1, z2, on, q1, q2, q3, q4, q5, q6, q7, rfl, q8⟩ | ⟨ho, n, q1, q2, k⟩
  · refine ⟨26, hF.ocE hp ho, Or.inr (Or.inr (Or.inr (Or.inl ⟨rfl, ?_⟩)))⟩
    obtain rfl | rfl | rfl | rfl : i = 1 ∨ i = 2 ∨ i = 3 ∨ i = 4 := by omega
    · exact X_say hst (ih _) hp ho q1 q2 q5 hd hL hN hpre hR9 hQ
    · exact X_ret hst ih0 hp ho hpl q1 q2 q5 hd hL hN hpre hR hQ
    · exact X_raise hst ih0 hp ho hpl q1 q2 q5 hd hL hN hpre hR hQ
    · exact X_alone hst ih0 hp ho hpl q1 q2 q5 hd hL hN hpre hR hQ
  · exact ⟨14, hF.ocE hp ho, Or.inl ⟨rfl, X_if hst ih0 ihx0 hp ho hpl q1 q2 q3 hd hL hN hpre hR hQ⟩⟩
  · exact ⟨24, hF.ocE hp ho, Or.inr (Or.inl ⟨rfl, X_while hst ih0 ihx0 hp ho hpl q1 q2 q3 q4 q5 hd hL hN hpre hR hQ⟩)⟩
  · exact ⟨25, hF.ocE hp ho, Or.inr (Or.inr (Or.inl ⟨rfl, X_for hst ih0 ihx0 hp ho hpl q1 q2 q3 q4 q5 q6 q7 q8 q9 hd hL hN hpre hR hQ⟩))⟩
  · exact ⟨27, hF.ocE hp ho, Or.inr (Or.inr (Or.inr (Or.inr (Or.inl ⟨rfl, X_try hst ihx0 hp ho q1 q2 q3 q4 q5 q6 q7 q8 hd hL hN hpre hR hQ⟩))))⟩
  · refine ⟨28, hF.ocE hp ho, Or.inr (Or.inr (Or.inr (Or.inr (Or.inr ⟨rfl, ?_⟩))))⟩
    rcases k with ⟨k1, k2, t, x, z, z1, k3, k4, rfl⟩ | ⟨k1, t1, t, h1, np, fp, k2, k3, k4, k5, k6, k7, rfl⟩ | ⟨t1, t2, t, h1, h2, sp, q, np, fp, k1, k2, k3, k4, -, k5, k6, k7, k8, k9, k10, rfl⟩
    · exact X_put hst ih0 hp ho q1 q2 k1 k2 k3 k4 hd hL hN hpre hR hQ
    · exact X_put1 hst ih0 hp ho q1 q2 k1 k2 k3 k4 k5 k6 k7 hd hL hN hpre hR hQ
    · exact X_put2 hst ih0 hp ho q1 q2 k1 k2 k3 k4 k5 k6 k7 k8 k9 k10 hd hL hN hpre hR hQ
theorem XSp_step (hst : l.stackTraces = false) (ih : ∀ Bb, DSp l E w f0 s0 fuel Bb P F M L g) : ∀ Bb, XSp l E w f0 s0 fuel Bb P F M L (g + 1) := by
  intro Bb nv v a b u h hrep d s f pl C fr N wy sh ct out hd hL hN hpre hR Q hQ
  have hF := hR.frz
  obtain ⟨p, m, r, V, c, rfl, hp, ho, q1, q2, q3, q4, q5, q6, q7, q8, rfl, q9⟩ := hrep
  exact ⟨p, rfl, hF.ocE hp ho, X_block hst (ih Bb) hp ho q1 q2 q3 q4 q5 q6 q7 q8 q9 hd hL hN hpre hR hQ⟩
end CDa
