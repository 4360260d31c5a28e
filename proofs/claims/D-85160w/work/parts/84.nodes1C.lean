/-! THE COMPONENT'S TREES: numerals, names, prefixes -/
/-- the work of a node, whichever it is -/
def WK (l : Launch) (E : EN) (w : CO) (d p : Nat) (s : CS) (f : RH) (Q : KO → CS → RH → Prop) : Prop := ∃ k : Nat, oc f p k ∧ ((k = 15 ∧ EvC l E w d MX17_work [.ref p, .ref (w.1 3)] s f Q) ∨ (k = 16 ∧ EvC l E w d MX18_work [.ref p, .ref (w.1 3)] s f Q) ∨ (k = 18 ∧ EvC l E w d MX20_work [.ref p, .ref (w.1 3)] s f Q) ∨ (k = 19 ∧ EvC l E w d MX21_work [.ref p, .ref (w.1 3)] s f Q) ∨ (k = 20 ∧ EvC l E w d MX22_work [.ref p, .ref (w.1 3)] s f Q) ∨ (k = 21 ∧ EvC l E w d MX23_work [.ref p, .ref (w.1 3)] s f Q) ∨ (k = 22 ∧ EvC l E w d MX24_work [.ref p, .ref (w.1 3)] s f Q) ∨ (k = 23 ∧ EvC l E w d MX25_work [.ref p, .ref (w.1 3)] s f Q))
/-- Java frames that the work of a node of height g wants, while L calls may still come -/
def KD (L g : Nat) : Nat := 20 + g + 100 * L
/-- nodes of height g work as their orders say -/
def NSp (l : Launch) (E : EN) (w : CO) (f0 : RH) (s0 : CS) (fuel : Nat) (Bb : Nat × Nat) (P : Pg) (F : Nat → Nat) (M L g : Nat) : Prop :=
  ∀ (nv : Nat) (v : Value) (a b h : Nat), RepN f0 P F M nv g v a b h → ∀ (d : Nat) (s : CS) (f : RH) (pl C : List Th) (fr : List Fm) (N : List Nat) (wy : List Wy) (sh : Nat → Option Th) (ct : Ct) (out : List Int32), KD L g ≤ d → fr.length + L = 10 → N.head? = some nv → aPre C pl fr wy h 1 L → cR E f0 s0 fuel Bb C fr N sh ct out s f → ∀ Q : KO → CS → RH → Prop, (∀ o s' f', oN E f0 s0 fuel Bb P a b C pl fr N wy sh ct out o s' f' → Q o s' f') → ∃ p, v = .ref p ∧ WK l E w d p s f Q
section CN1
variable {l : Launch} {E : EN} {w : CO} {d : Nat} {s s' s0 : CS} {f f' f0 : RH} {Q : KO → CS → RH → Prop} {fuel : Nat} {Bb : Nat × Nat} {P : Pg} {F : Nat → Nat} {C pl A : List Th} {fr : List Fm} {N : List Nat} {wy : List Wy} {sh sh1 : Nat → Option Th} {ct ct1 : Ct} {out out1 : List Int32} {a b t h L p g M nv : Nat} {place : Int32}
theorem oN.kp {o : KO} (hQ : ∀ o s' f', oN E f0 s0 fuel Bb P a b C pl fr N wy sh ct out o s' f' → Q o s' f') (h : oN E f0 s0 fuel Bb P a b C pl fr N wy sh ct out o s' f') : KP o (fun r => r = none ∧ Q (.inl none) s' f') (fun k => Q (.inr k) s' f') := by
  have h0 := hQ _ _ _ h
  rcases h with ⟨rfl, -⟩ | ⟨rfl, -⟩
  · exact ⟨rfl, h0⟩
  · exact h0
theorem fit_of {k pc : Nat} {tr : Nat × Int32 × Int32} (hk : (P.1 pc).1 = k) (h0 : k ≠ 0 ∧ k ≠ 11 ∧ k ≠ 18 ∧ k ≠ 24 ∧ k ≠ 20 ∧ k ≠ 19) (hn : aNeed (P.1 pc) ≤ pl.length) : aFit P (pc, pl, fr, wy, sh, ct, out, tr) :=
  ⟨by omega, hn, fun z => by omega, fun z => by omega, fun z => by omega, fun z => by omega, fun z => by omega⟩
theorem cR.frz (h : cR E f0 s0 fuel Bb C fr N sh ct out s f) : Frz f0 f := h.1.2.2.2.2.2.2.2.2.2.1
theorem N_num (hst : l.stackTraces = false) {c q : Int32} {x y : Nat} (hp : p < f0.2.2.2) (ho : oc f0 p 15) (hc : vl f0 p 166 = .int c) (hP : P.1 a = (2, x, y, c, q)) (hh : 1 ≤ h) (hpre : aPre C pl fr wy h 1 L) (hR : cR E f0 s0 fuel Bb C fr N sh ct out s f) (hQ : ∀ o s' f', oN E f0 s0 fuel Bb P a (a + 1) C pl fr N wy sh ct out o s' f' → Q o s' f') : EvC l E w (d + 1) MX17_work [.ref p, .ref (w.1 3)] s f Q := by
  have hF := hR.frz
  have hCl := hpre.2.2.1
  refine eX17_work hst ⟨hF.ocE hp ho, c, by rw [hF.vlE hp]; exact hc, C_push hst hR.2.1 (by omega) ⟨rfl, hQ _ _ _ (Or.inl ⟨rfl, zI c, sh, ct, out, Nat.le_refl _, ?_, ?_⟩)⟩⟩
  · have hd : doA P fuel (a, pl, fr, wy, sh, ct, out, (0, -1, 0)) = (a + 1, zI c :: pl, fr, wy, sh, ct, out, (0, -1, 0)) := by
      show (if (P.1 a).1 = 1 ∨ (P.1 a).1 = 16 then _ else if (P.1 a).1 = 2 then (a + 1, zI (P.1 a).2.2.2.1 :: pl, fr, wy, sh, ct, out, (0, -1, 0)) else _) = _
      have h1 : (P.1 a).1 = 2 := by rw [hP]
      rw [if_neg (by omega), if_pos h1, hP]
    refine aRch.one (hpre.good (A := []) (fun x hx => absurd hx List.not_mem_nil) (Nat.zero_le _) hR.2.2.2.2.2 hR.2.2.2.1 ?_ ?_) ?_
    · exact fit_of (k := 2) (by rw [hP]) (by decide) (by rw [hP]; exact Nat.zero_le _)
    · show aTk (doA P fuel (a, pl, fr, wy, sh, ct, out, (0, -1, 0)))
      rw [hd]
      exact fun z => absurd rfl z
    · rw [stA_ok (by rw [hd]; rfl), hd]
  · exact hR.push (by omega) (cpsh_fr JC s _ _ (Nat.le_refl _)) rfl rfl (by rw [cpsh_n, if_pos rfl]) (by rw [cpsh_t, if_pos rfl]) ⟨rfl, rfl⟩ trivial
theorem N_name (hst : l.stackTraces = false) {n x : Nat} {y : Int32} (hp : p < f0.2.2.2) (ho : oc f0 p 20) (hpl : vl f0 p 165 = .int place) (hc : vl f0 p 180 = .int (nI n)) (hn : n < 8 + nv) (hP : P.1 a = (3, n, x, y, place)) (hh : 1 ≤ h) (hN : N.head? = some nv) (hpre : aPre C pl fr wy h 1 L) (hR : cR E f0 s0 fuel Bb C fr N sh ct out s f) (hQ : ∀ o s' f', oN E f0 s0 fuel Bb P a (a + 1) C pl fr N wy sh ct out o s' f' → Q o s' f') : EvC l E w (d + 2) MX22_work [.ref p, .ref (w.1 3)] s f Q := by
  have hF := hR.frz
  have hCl := hpre.2.2.1
  have hs : ∀ x, (match aget fr sh (P.1 a).2.1 with
      | none => (a + 1, pl, fr, wy, sh, ct, out, (7, (P.1 a).2.2.2.2, 0))
      | some v => (a + 1, v :: pl, fr, wy, sh, ct, out, ((0 : Nat), (-1 : Int32), (0 : Int32)))) = x → doA P fuel (a, pl, fr, wy, sh, ct, out, (0, -1, 0)) = x := fun x hx => by
    have h1 : (P.1 a).1 = 3 := by rw [hP]
    show (if (P.1 a).1 = 1 ∨ (P.1 a).1 = 16 then _ else if (P.1 a).1 = 2 then _ else if (P.1 a).1 = 3 then _ else _) = _
    rw [if_neg (by omega), if_neg (by omega), if_pos h1]
    exact hx
  rw [hP] at hs
  have hg : aTk (doA P fuel (a, pl, fr, wy, sh, ct, out, (0, -1, 0))) → aGood P fuel (a, pl, fr, wy, sh, ct, out, (0, -1, 0)) := fun htk => by
    refine hpre.good (A := []) (fun x hx => absurd hx List.not_mem_nil) (Nat.zero_le _) hR.2.2.2.2.2 hR.2.2.2.1 ?_ htk
    exact fit_of (k := 3) (by rw [hP]) (by decide) (by rw [hP]; exact Nat.zero_le _)
  refine eX22_work hst ⟨hF.ocE hp ho, nI n, by rw [hF.vlE hp]; exact hc, 20, hF.ocE hp ho, by decide, by decide, place, by rw [hF.vlE hp]; exact hpl, ?_⟩
  refine C_value hst hR (by omega) hN hn (fun e => ?_) (fun v e s1 hR1 => ⟨rfl, hQ _ _ _ (Or.inl ⟨rfl, v, sh, ct, out, Nat.le_refl _, ?_, hR1⟩)⟩)
  · have hd := hs (a + 1, pl, fr, wy, sh, ct, out, (7, place, 0)) (by simp only [e])
    refine hQ _ _ _ (Or.inr ⟨rfl, _, a + 1, pl, fr, fr, wy, sh, ct, out, (7, place, 0), aRch.rf _ _ _, hg ?_, ?_, rfl, rfl, Or.inl ⟨by show 1 ≤ 7; decide, by show 7 ≤ 9; decide, hd, ⟨[], rfl⟩, ⟨[], rfl⟩, [], rfl, fun q hq => absurd hq List.not_mem_nil⟩⟩)
    · rw [hd]
      exact hpre.tk fun _ => ⟨Nat.le_refl _, Nat.le_refl _, fun q hq _ => hq⟩
    · obtain ⟨hB, g1, g2, g3, g4, g5⟩ := id hR
      refine ⟨?_, ⟨rfl, rfl, rfl⟩, by omega, by omega, fun _ => g3⟩
      have e9 : C = C ++ [] := (List.append_nil C).symm
      rw [e9] at hB
      exact hB.ord (Frz.rf f) ⟨hB.2.2.2.2.2.2.2.1, hB.2.2.2.2.2.2.2.2.1⟩ (cwrong_fr JC C.length s 7 place) hB.2.2.2.1.2.2.2.1 (Nat.le_refl _)
  · have hd := hs (a + 1, v :: pl, fr, wy, sh, ct, out, (0, -1, 0)) (by simp only [e])
    refine aRch.one (hg ?_) ?_
    · rw [hd]
      exact fun z => absurd rfl z
    · rw [stA_ok (by rw [hd]; rfl), hd]
theorem N_pre (hst : l.stackTraces = false) {n x : Nat} {y : Int32} {z : Bool} (ih : NSp l E w f0 s0 fuel Bb P F M L g) (hp : p < f0.2.2.2) (ho : oc f0 p 22) (hpl : vl f0 p 165 = .int place) (hc : vl f0 p 183 = .int (bI z)) (hr : RepN f0 P F M nv g (vl f0 p 182) a t h) (hz : (n == 33) = z) (hP : P.1 t = (4, n, x, y, place)) (hh : 1 ≤ h) (hd : KD L (g + 1) ≤ d) (hL : fr.length + L = 10) (hN : N.head? = some nv) (hpre : aPre C pl fr wy h 1 L) (hR : cR E f0 s0 fuel Bb C fr N sh ct out s f) (hQ : ∀ o s' f', oN E f0 s0 fuel Bb P a (t + 1) C pl fr N wy sh ct out o s' f' → Q o s' f') : EvC l E w d MX24_work [.ref p, .ref (w.1 3)] s f Q := by
  unfold KD at hd
  obtain ⟨d, rfl⟩ : ∃ d', d = d' + 4 := ⟨d - 4, by omega⟩
  have hF := hR.frz
  have hop : 4 ≤ ((4, n, x, y, place) : Od).1 ∧ ((4, n, x, y, place) : Od).1 ≤ 8 := ⟨Nat.le_refl 4, by show 4 ≤ 8; decide⟩
  obtain ⟨p', e1, hw⟩ := ih nv _ a t h hr (d + 3) s f pl C fr N wy sh ct out (by unfold KD; omega) hL hN hpre hR _ (fun o s' f' q => q)
  refine eX24_work hst ⟨hF.ocE hp ho, p', by rw [hF.vlE hp]; exact e1, _, ?_, hw⟩
  rintro o s2 f3 (⟨rfl, v, sh', ct', out', hct, hrc, hR'⟩ | ⟨rfl, hT⟩)
  · have hF3 := hR'.frz
    have hvZ : ∀ x ∈ [v], ZW x := fun x hx => hR'.1.1.2.1 x (List.mem_append_right _ hx)
    refine ⟨rfl, 22, hF3.ocE hp ho, by decide, by decide, place, by rw [hF3.vlE hp]; exact hpl, ?_⟩
    refine C_step hst hR' (fun hfu hT => hQ _ _ _ (Or.inr ⟨rfl, ord_fuel (A := [v]) hpre hvZ hh hrc hP hop rfl (Nat.le_refl 1) hR'.2.2.2.2.2 hR'.2.2.2.1 hfu hT⟩)) (fun hlt s1 hR1 => ⟨rfl, hF3.ocE hp ho, bI z, by rw [hF3.vlE hp]; exact hc, 22, hF3.ocE hp ho, by decide, by decide, place, by rw [hF3.vlE hp]; exact hpl, ?_⟩)
    refine EvC.fz (C_sone hst (hR1.ok (A := [v])) (fun o s' f' hc hFf hcb => oN.kp hQ (ord_cop (A := [v]) (r := zone z v) hpre hvZ hh hct hrc hP hop rfl (Nat.le_refl 1) hh hlt ?_ (zkd_one _ _) hR1 hFf hcb hc)))
    show afin (t + 1) (zone (n == 33) v) pl fr wy sh' (ct'.1 + 1, ct'.2) out' place = _
    rw [hz]
  · exact hQ _ _ _ (Or.inr ⟨rfl, hT⟩)
end CN1
