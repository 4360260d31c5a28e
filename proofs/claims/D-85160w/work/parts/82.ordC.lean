/-! THE COMPONENT'S TREES: orders that leave a value -/
theorem Frz.vlE {f0 f : RH} (h : Frz f0 f) {p : Nat} (hp : p < f0.2.2.2) : vl f p = vl f0 p := by unfold vl; rw [h.2.2.2 p hp]
theorem Frz.tgE {f0 f : RH} (h : Frz f0 f) {p : Nat} (hp : p < f0.2.2.2) : tg f p = tg f0 p := by unfold tg; rw [h.2.2.2 p hp]
theorem Frz.lnE {f0 f : RH} (h : Frz f0 f) {p : Nat} (hp : p < f0.2.2.2) : ln f p = ln f0 p := by unfold ln; rw [h.2.2.2 p hp]
theorem Frz.ocE {f0 f : RH} (h : Frz f0 f) {p k : Nat} (hp : p < f0.2.2.2) (ho : oc f0 p k) : oc f p k := ⟨by rw [h.tgE hp]; exact ho.1, by rw [h.lnE hp]; exact ho.2⟩
theorem stA_ok {P : Pg} {fuel : Nat} {σ : AS} (h : (aT (doA P fuel σ)).1 = 0) : stA P fuel σ = doA P fuel σ := if_pos h
theorem stA_fin {P : Pg} {fuel : Nat} {σ : AS} (h : 9 < (aT (doA P fuel σ)).1) : stA P fuel σ = doA P fuel σ := by
  unfold stA
  rw [if_neg (by omega)]
  generalize doA P fuel σ = x at h ⊢
  obtain ⟨pc, pl, fr, wy, sh, ct, out, tr⟩ := x
  exact if_pos h
section COr
variable {l : Launch} {E : EN} {w : CO} {d : Nat} {s s' s0 : CS} {f f' f0 : RH} {Q : KO → CS → RH → Prop} {fuel : Nat} {Bb : Nat × Nat} {P : Pg} {C pl A : List Th} {fr : List Fm} {N : List Nat} {wy : List Wy} {sh sh1 : Nat → Option Th} {ct ct1 : Ct} {out out1 : List Int32} {a t h L : Nat} {r : Nat ⊕ Th} {place : Int32}
/-- what an order 4 .. 8 does -/
theorem doA_wk {o : Od} (hP : P.1 t = o) (ho : 4 ≤ o.1 ∧ o.1 ≤ 8) : doA P fuel (t, pl, fr, wy, sh, ct, out, (0, -1, 0)) = if ct.1 = fuel then (t + 1, pl, fr, wy, sh, ct, out, (10, o.2.2.2.2, 0)) else aworks P o t pl fr wy sh (ct.1 + 1, ct.2) out := by
  subst hP
  show (if (P.1 t).1 = 1 ∨ (P.1 t).1 = 16 then _ else if (P.1 t).1 = 2 then _ else if (P.1 t).1 = 3 then _ else if (P.1 t).1 < 11 then _ else _) = _
  rw [if_neg (by omega), if_neg (by omega), if_neg (by omega), if_pos (by omega)]
theorem ord_fit {o : Od} (hP : P.1 t = o) (ho : 4 ≤ o.1 ∧ o.1 ≤ 8) (hn : aNeed o ≤ pl.length) : aFit P (t, pl, fr, wy, sh, ct, out, (0, -1, 0)) := by
  subst hP
  exact ⟨by omega, hn, fun z => by omega, fun z => by omega, fun z => by omega, fun z => by omega, fun z => by omega⟩
/-- no more fuel -/
theorem ord_fuel {o : Od} (hpre : aPre C pl fr wy h 1 L) (hA : ∀ x ∈ A, ZW x) (hAl : A.length ≤ h) (hr : aRch P fuel (a, pl, fr, wy, sh, ct, out, (0, -1, 0)) (t, A.reverse ++ pl, fr, wy, sh1, ct1, out1, (0, -1, 0))) (hP : P.1 t = o) (ho : 4 ≤ o.1 ∧ o.1 ≤ 8) (hpl : o.2.2.2.2 = place) (hn : aNeed o ≤ A.length) (hf : 1 ≤ fr.length ∧ fr.length ≤ 10) (hm : ct1.2.1 ≤ 3000) (hfu : ct1.1 = fuel) (hT : cT E f0 s0 fuel Bb (C ++ A) fr N sh1 ct1 out1 (10, place, 0) s' f') : oT E f0 s0 fuel Bb P (a, pl, fr, wy, sh, ct, out, (0, -1, 0)) C pl fr N wy s' f' := by
  have hd := doA_wk (fuel := fuel) (pl := A.reverse ++ pl) (fr := fr) (wy := wy) (sh := sh1) (ct := ct1) (out := out1) hP ho
  rw [if_pos hfu, hpl] at hd
  have hg : aGood P fuel (t, A.reverse ++ pl, fr, wy, sh1, ct1, out1, (0, -1, 0)) := by
    refine hpre.good (fun x hx => hA x (List.mem_reverse.mp hx)) (by rw [List.length_reverse]; omega) hf hm (ord_fit hP ho (by rw [List.length_append, List.length_reverse]; omega)) ?_
    rw [hd]
    exact hpre.tk fun _ => ⟨by show pl.length ≤ (A.reverse ++ pl).length; rw [List.length_append]; omega, Nat.le_refl _, fun q hq _ => hq⟩
  have hst := stA_fin (P := P) (fuel := fuel) (σ := (t, A.reverse ++ pl, fr, wy, sh1, ct1, out1, (0, -1, 0))) (by rw [hd]; show 9 < 10; decide)
  rw [hd] at hst
  exact ⟨_, t + 1, A.reverse ++ pl, fr, fr, wy, sh1, ct1, out1, (10, place, 0), hr, hg, ⟨hT.1.cut, hT.2⟩, rfl, rfl, Or.inr ⟨Nat.le_refl _, by show 10 ≤ 11; decide, _, hst⟩⟩
/-- what has come of it -/
theorem ord_cop {o : Od} {ko : KO} {s1 : CS} (hpre : aPre C pl fr wy h 1 L) (hA : ∀ x ∈ A, ZW x) (hAl : A.length ≤ h) (hct : ct.1 ≤ ct1.1) (hr : aRch P fuel (a, pl, fr, wy, sh, ct, out, (0, -1, 0)) (t, A.reverse ++ pl, fr, wy, sh1, ct1, out1, (0, -1, 0))) (hP : P.1 t = o) (ho : 4 ≤ o.1 ∧ o.1 ≤ 8) (hpl : o.2.2.2.2 = place) (hn : aNeed o ≤ A.length) (hh : 1 ≤ h) (hlt : ct1.1 < fuel)
    (hdo : aworks P o t (A.reverse ++ pl) fr wy sh1 (ct1.1 + 1, ct1.2) out1 = afin (t + 1) r pl fr wy sh1 (ct1.1 + 1, ct1.2) out1 place) (hzk : zkd r) (hS : cR E f0 s0 fuel Bb (C ++ A) fr N sh1 (ct1.1 + 1, ct1.2) out1 s1 f) (hF : Frz f f') (hcb : ez E ≤ f'.2.2.2 ∧ f'.2.2.2 ≤ f'.1) (hc : cop E C.length ct1.2.1 r place s1 f ko s' f') : oN E f0 s0 fuel Bb P a (t + 1) C pl fr N wy sh ct out ko s' f' := by
  have hm : ct1.2.1 ≤ 3000 := hS.2.2.2.1
  have hf : 1 ≤ fr.length ∧ fr.length ≤ 10 := hS.2.2.2.2.2
  have hd := doA_wk (fuel := fuel) (pl := A.reverse ++ pl) (fr := fr) (wy := wy) (sh := sh1) (ct := ct1) (out := out1) hP ho
  rw [if_neg (by omega), hdo] at hd
  have hCl : C.length + 1 ≤ 8380 := by have := hpre.2.2.1; omega
  have good : (¬ (aT (afin (t + 1) r pl fr wy sh1 (ct1.1 + 1, ct1.2) out1 place)).1 = 0 → pl.length ≤ (afin (t + 1) r pl fr wy sh1 (ct1.1 + 1, ct1.2) out1 place).2.1.length ∧ fr.length ≤ (afin (t + 1) r pl fr wy sh1 (ct1.1 + 1, ct1.2) out1 place).2.2.1.length ∧ ∀ q ∈ (afin (t + 1) r pl fr wy sh1 (ct1.1 + 1, ct1.2) out1 place).2.2.2.1, q.1 = 2 → q ∈ wy) → aGood P fuel (t, A.reverse ++ pl, fr, wy, sh1, ct1, out1, (0, -1, 0)) := fun q => by
    refine hpre.good (fun x hx => hA x (List.mem_reverse.mp hx)) (by rw [List.length_reverse]; omega) hf hm (ord_fit hP ho (by rw [List.length_append, List.length_reverse]; omega)) ?_
    rw [hd]
    exact hpre.tk q
  rcases hS.cop hCl hF hcb hc with ⟨v, rfl, c1, rfl, c2⟩ | ⟨v, rfl, c1, rfl, c2⟩ | ⟨k, rfl, rfl, c2⟩
  · have ha : afin (t + 1) (.inr v) pl fr wy sh1 (ct1.1 + 1, ct1.2) out1 place = (t + 1, v :: pl, fr, wy, sh1, (ct1.1 + 1, ct1.2.1 + zm v, ct1.2.2), out1, (0, -1, 0)) := if_neg c1
    rw [ha] at hd good
    refine Or.inl ⟨rfl, v, sh1, (ct1.1 + 1, ct1.2.1 + zm v, ct1.2.2), out1, Nat.le_succ_of_le hct, hr.trans (aRch.one (good fun z => absurd rfl z) ?_), c2⟩
    rw [stA_ok (by rw [hd]; rfl), hd]
  · have ha : afin (t + 1) (.inr v) pl fr wy sh1 (ct1.1 + 1, ct1.2) out1 place = (t + 1, pl, fr, wy, sh1, (ct1.1 + 1, ct1.2.1 + zm v, ct1.2.2), out1, (11, place, 0)) := if_pos c1
    rw [ha] at hd good
    refine Or.inr ⟨rfl, _, t + 1, pl, fr, fr, wy, sh1, (ct1.1 + 1, ct1.2.1 + zm v, ct1.2.2), out1, (11, place, 0), hr, good fun _ => ⟨Nat.le_refl _, Nat.le_refl _, fun q hq _ => hq⟩, c2, rfl, rfl, Or.inr ⟨by show 10 ≤ 11; decide, Nat.le_refl 11, sh1, ?_⟩⟩
    rw [stA_fin (by rw [hd]; show 9 < 11; decide), hd]
  · have ha : afin (t + 1) (.inl k) pl fr wy sh1 (ct1.1 + 1, ct1.2) out1 place = (t + 1, pl, fr, wy, sh1, (ct1.1 + 1, ct1.2), out1, (k, place, 0)) := rfl
    rw [ha] at hd good
    obtain ⟨k1, k2⟩ := hzk k rfl
    exact Or.inr ⟨rfl, _, t + 1, pl, fr, fr, wy, sh1, (ct1.1 + 1, ct1.2), out1, (k, place, 0), hr, good fun _ => ⟨Nat.le_refl _, Nat.le_refl _, fun q hq _ => hq⟩, c2, rfl, rfl, Or.inl ⟨k1, by show k ≤ 9; omega, hd, ⟨[], rfl⟩, ⟨[], rfl⟩, [], rfl, fun q hq => absurd hq List.not_mem_nil⟩⟩
end COr
