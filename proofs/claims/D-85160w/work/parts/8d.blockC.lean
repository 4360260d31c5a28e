/-! THE COMPONENT'S TREES: blocks -/
theorem RepX.cls {f0 : RH} {P : Pg} {F : Nat → Nat} {M nv : Nat} : ∀ {g q a b u h : Nat}, RepX f0 P F M nv g true (.ref q) a b u h → ∃ k, oc f0 q k ∧ 161 ∈ CF k ∧ ¬ k = 30
  | 0, _, _, _, _, _, k => k.elim
  | _ + 1, _, _, _, _, _, ⟨p, _, e, _, _, _, k⟩ => by
    cases e
    rcases k with k | k | k | k | k | k
    · exact ⟨26, k.1, by decide, by decide⟩
    · exact ⟨14, k.1, by decide, by decide⟩
    · exact ⟨24, k.1, by decide, by decide⟩
    · exact ⟨25, k.1, by decide, by decide⟩
    · exact ⟨27, k.1, by decide, by decide⟩
    · exact ⟨28, k.1, by decide, by decide⟩
section CD3
variable {l : Launch} {E : EN} {w : CO} {d : Nat} {s s' s0 : CS} {f f' f0 : RH} {Q : KO → CS → RH → Prop} {fuel : Nat} {Bb : Nat × Nat} {P : Pg} {F : Nat → Nat} {C pl A : List Th} {fr fr' : List Fm} {N : List Nat} {wy : List Wy} {sh sh' : Nat → Option Th} {ct ct' : Ct} {out out' : List Int32} {a b t h u L p g M nv x y : Nat} {z place : Int32}
theorem doA_st {o : Od} (hP : P.1 t = o) (ho : o.1 = 1 ∨ o.1 = 16) : doA P fuel (t, pl, fr, wy, sh, ct, out, (0, -1, 0)) = if ct.1 = fuel then (t + 1, pl, fr, wy, sh, ct, out, (10, o.2.2.2.2, 0)) else (t + 1, pl, fr, wy, sh, (ct.1 + 1, ct.2), out, (0, -1, 0)) := by
  subst hP
  show (if (P.1 t).1 = 1 ∨ (P.1 t).1 = 16 then _ else _) = _
  rw [if_pos ho]
theorem good0 {k : Nat} (hpre : aPre C pl fr wy h u L) (hf : 1 ≤ fr.length ∧ fr.length ≤ 10) (hm : ct.2.1 ≤ 3000) (hk : (P.1 t).1 = k) (h0 : k ≠ 0 ∧ k ≠ 11 ∧ k ≠ 18 ∧ k ≠ 24 ∧ k ≠ 20 ∧ k ≠ 19) (hn : aNeed (P.1 t) = 0) (htk : ¬ (aT (doA P fuel (t, pl, fr, wy, sh, ct, out, (0, -1, 0)))).1 = 0 → pl.length ≤ (doA P fuel (t, pl, fr, wy, sh, ct, out, (0, -1, 0))).2.1.length ∧ fr.length ≤ (doA P fuel (t, pl, fr, wy, sh, ct, out, (0, -1, 0))).2.2.1.length ∧ ∀ q ∈ (doA P fuel (t, pl, fr, wy, sh, ct, out, (0, -1, 0))).2.2.2.1, q.1 = 2 → q ∈ wy) : aGood P fuel (t, pl, fr, wy, sh, ct, out, (0, -1, 0)) :=
  hpre.good (A := []) (fun x hx => absurd hx List.not_mem_nil) (Nat.zero_le _) hf hm (fit_of hk h0 (by rw [hn]; exact Nat.zero_le _)) (hpre.tk htk)
/-- a step of the flat machine that is no more than a step, and what it is here -/
theorem st_ok {o : Od} (hpre : aPre C pl fr wy h u L) (hf : 1 ≤ fr.length ∧ fr.length ≤ 10) (hm : ct.2.1 ≤ 3000) (hP : P.1 t = o) (ho : o.1 = 1 ∨ o.1 = 16) (hlt : ct.1 < fuel) : aRch P fuel (t, pl, fr, wy, sh, ct, out, (0, -1, 0)) (t + 1, pl, fr, wy, sh, (ct.1 + 1, ct.2), out, (0, -1, 0)) := by
  have hd := doA_st (fuel := fuel) (pl := pl) (fr := fr) (wy := wy) (sh := sh) (ct := ct) (out := out) hP ho
  rw [if_neg (by omega)] at hd
  refine one_ok (good0 (k := o.1) hpre hf hm (by rw [hP]) (by omega) ?_ ?_) hd rfl
  · rw [hP]; unfold aNeed
    rw [if_neg (by omega), if_neg (by omega), if_neg (by omega), if_neg (by omega), if_neg (by omega)]
  · rw [hd]; exact fun z => absurd rfl z
theorem st_fuel {o : Od} {σ : AS} (hpre : aPre C pl fr wy h u L) (hr : aRch P fuel σ (t, pl, fr, wy, sh, ct, out, (0, -1, 0))) (hf : 1 ≤ fr.length ∧ fr.length ≤ 10) (hm : ct.2.1 ≤ 3000) (hP : P.1 t = o) (ho : o.1 = 1 ∨ o.1 = 16) (hpl : o.2.2.2.2 = place) (hfu : ct.1 = fuel) (hT : cT E f0 s0 fuel Bb C fr N sh ct out (10, place, 0) s' f') : oT E f0 s0 fuel Bb P σ C pl fr N wy s' f' := by
  have hd := doA_st (fuel := fuel) (pl := pl) (fr := fr) (wy := wy) (sh := sh) (ct := ct) (out := out) hP ho
  rw [if_pos hfu, hpl] at hd
  have hg : aGood P fuel (t, pl, fr, wy, sh, ct, out, (0, -1, 0)) := by
    refine good0 (k := o.1) hpre hf hm (by rw [hP]) (by omega) ?_ ?_
    · rw [hP]; unfold aNeed
      rw [if_neg (by omega), if_neg (by omega), if_neg (by omega), if_neg (by omega), if_neg (by omega)]
    · rw [hd]; exact fun _ => ⟨Nat.le_refl _, Nat.le_refl _, fun q hq _ => hq⟩
  have hst := stA_fin (P := P) (fuel := fuel) (σ := (t, pl, fr, wy, sh, ct, out, (0, -1, 0))) (by rw [hd]; show 9 < 10; decide)
  rw [hd] at hst
  exact ⟨_, t + 1, pl, fr, fr, wy, sh, ct, out, (10, place, 0), hr, hg, hT, rfl, rfl, Or.inr ⟨Nat.le_refl _, by show 10 ≤ 11; decide, _, hst⟩⟩
theorem X_block (hst : l.stackTraces = false) {m r : Nat} {V : Nat → Value} {c : Nat → Nat} (ih : DSp l E w f0 s0 fuel Bb P F M L g) (hp : p < f0.2.2.2) (ho : oc f0 p 13) (q3 : vl f0 p 160 = .int (nI m)) (q4 : m ≤ 1000) (r1 : vl f0 p 159 = .ref r) (r2 : r < f0.2.2.2) (r3 : tg f0 r = some (.inr 6)) (r4 : m ≤ ln f0 r) (r5 : ∀ k, k < m → vl f0 r k = V k) (hc0 : c 0 = a)
    (hk : ∀ k, k < m → ∃ (q x y : Nat) (z pl : Int32), V k = .ref q ∧ q < f0.2.2.2 ∧ vl f0 q 161 = .int pl ∧ P.1 (c k) = (1, x, y, z, pl) ∧ RepX f0 P F M nv g true (V k) (c k + 1) (c (k + 1)) u h) (hd : KD L (g + 1) ≤ d) (hL : fr.length + L = 10) (hN : N.head? = some nv) (hpre : aPre C pl fr wy h (u + 1) L) (hR : cR E f0 s0 fuel Bb C fr N sh ct out s f) (hQ : ∀ o s' f', oD E f0 s0 fuel Bb P a (c m) C pl fr N wy sh ct out o s' f' → Q o s' f') : EvC l E w d MX13_act [.ref p, .ref (w.1 3)] s f Q := by
  unfold KD at hd
  obtain ⟨d, rfl⟩ : ∃ d', d = d' + 4 := ⟨d - 4, by omega⟩
  refine eX13_act hst ?_
  refine dn (P := fun k => ∀ (s : CS) (f : RH) (fr' : List Fm) (sh' : Nat → Option Th) (ct' : Ct) (out' : List Int32), aSame fr fr' → ct.1 ≤ ct'.1 → aRch P fuel (a, pl, fr, wy, sh, ct, out, (0, -1, 0)) (c k, pl, fr', wy, sh', ct', out', (0, -1, 0)) → cR E f0 s0 fuel Bb C fr' N sh' ct' out' s f → ExC l E w (d + 4) MX13_act 2 [some (.ref p), some (.ref (w.1 3)), some (.int (nI k))] [] s f Q) m ?_ (fun k hkm ihk => ?_) s f fr sh ct out (aSame.rf fr) (Nat.le_refl _) (by rw [hc0]; exact aRch.rf _ _ _) hR
  · intro s f fr' sh' ct' out' hs hct hrc hR'
    have hF := hR'.frz
    exact vX13_act_2 ⟨hF.ocE hp ho, nI m, by rw [hF.vlE hp]; exact q3, pk_le m m (fun _ => hQ _ _ _ (Or.inl ⟨rfl, fr', sh', ct', out', hs, hct, hrc, hR'⟩)) (fun c => by omega) rfl rfl⟩
  · intro s f fr' sh' ct' out' hs hct hrc hR'
    have hF := hR'.frz
    obtain ⟨q, x, y, z, plc, e1, e2, e3, e4, hrep⟩ := hk k hkm
    have hcl := e1 ▸ hrep
    obtain ⟨kc, kc1, kc2, kc3⟩ := RepX.cls hcl
    have hpre' := hpre.frs hs.len
    have ho1 : ((1, x, y, z, plc) : Od).1 = 1 ∨ ((1, x, y, z, plc) : Od).1 = 16 := Or.inl rfl
    have hcell : vl f r (nI k).toNatClampNeg = .ref q := by rw [hF.vlE r2, nI_clamp (n := k) (by omega), r5 k hkm]; exact e1
    refine vX13_act_2 ⟨hF.ocE hp ho, nI m, by rw [hF.vlE hp]; exact q3, pk_le m k (fun c => by omega) (fun _ => ⟨hF.ocE hp ho, r, by rw [hF.vlE hp]; exact r1, 6, by decide, by rw [hF.tgE r2]; exact r3, by rw [hF.lnE r2]; exact inB_k (by omega) (by omega), q, hcell, kc, hF.ocE e2 kc1, kc2, kc3, plc, by rw [hF.vlE e2]; exact e3, ?_⟩) rfl rfl⟩
    refine C_step hst hR' (fun hfu hT => hQ _ _ _ (Or.inr (Or.inr ⟨rfl, oT.same (aRch.rf _ _ _) hs (st_fuel hpre' hrc hR'.2.2.2.2.2 hR'.2.2.2.1 e4 ho1 rfl hfu hT)⟩))) (fun hlt s1 hR1 => ?_)
    obtain ⟨q', e1', hw⟩ := ih nv _ (c k + 1) (c (k + 1)) u h hrep (d + 3) s1 f pl C fr' N wy sh' (ct'.1 + 1, ct'.2) out' (by unfold KD; omega) (by rw [hs.len]; exact hL) hN hpre' (hR1.slack rfl (by have := hR'.1.2.2.2.2.1.2.2.2; show out'.length + (Bb.2 + 9000) ≤ 9000 * (ct'.1 + 1); omega)) _ (fun o s' f' q => q)
    have hqq : q' = q := by rw [e1] at e1'; injection e1' with e; exact e.symm
    subst hqq
    have hrc1 := hrc.trans (st_ok hpre' hR'.2.2.2.2.2 hR'.2.2.2.1 e4 ho1 hlt)
    refine ⟨rfl, hF.ocE hp ho, r, by rw [hF.vlE hp]; exact r1, 6, by decide, by rw [hF.tgE r2]; exact r3, by rw [hF.lnE r2]; exact inB_k (by omega) (by omega), q', hcell, _, ?_, hw⟩
    rintro o s2 f3 (⟨rfl, fr2, sh2, ct2, out2, k1, k2, k3, k4⟩ | ⟨rfl, k⟩ | ⟨rfl, k⟩)
    · refine ⟨_, rfl, fun _ => ?_, fun c => absurd rfl c⟩
      rw [nI_1]
      exact ihk s2 f3 fr2 sh2 ct2 out2 (hs.trans k1) (by have : ct'.1 + 1 ≤ ct2.1 := k2; omega) (hrc1.trans k3) k4
    · refine ⟨_, rfl, fun c => absurd c (by decide), fun _ => hQ _ _ _ (oD.after hrc1 hs (by show ct.1 ≤ ct'.1 + 1; omega) (Or.inr (Or.inl ⟨rfl, k⟩)))⟩
    · exact hQ _ _ _ (oD.after (b := c m) hrc1 hs (by show ct.1 ≤ ct'.1 + 1; omega) (Or.inr (Or.inr ⟨rfl, k⟩)))
end CD3
