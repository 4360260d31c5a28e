/-! THE COMPONENT'S TREES: for -/
section CD7
variable {l : Launch} {E : EN} {w : CO} {d : Nat} {s s' s0 : CS} {f f' f0 : RH} {Q : KO → CS → RH → Prop} {fuel : Nat} {Bb : Nat × Nat} {P : Pg} {F : Nat → Nat} {C pl A : List Th} {fr fr' : List Fm} {N : List Nat} {wy : List Wy} {sh sh' : Nat → Option Th} {ct ct' : Ct} {out out' : List Int32} {a b t j e n h h' u u' L p g M nv x y x1 x2 : Nat} {z z1 z2 z3 place on : Int32} {v : Th}
theorem doA_forin (hP : P.1 t = (17, x, y, z, place)) : doA P fuel (t, v :: pl, fr, wy, sh, ct, out, (0, -1, 0)) = if zk v = 0 ∧ zv v < 0 then (t + 1, pl, fr, wy, sh, ct, out, (1, place, 0)) else (t + 1, pl, fr, (1, (if zk v = 0 then none else some v), 0, 0, (if zk v = 0 then (zv v).toNatClampNeg else zn v), 0, fr.length, 0) :: wy, sh, ct, out, (0, -1, 0)) := by
  have h1 : (P.1 t).1 = 17 := by rw [hP]
  show (if (P.1 t).1 = 1 ∨ (P.1 t).1 = 16 then _ else if (P.1 t).1 = 2 then _ else if (P.1 t).1 = 3 then _ else if (P.1 t).1 < 11 then _ else if (P.1 t).1 = 11 then _ else if (P.1 t).1 = 12 then _ else if (P.1 t).1 = 13 then _ else if (P.1 t).1 = 14 then _ else if (P.1 t).1 = 15 then _ else if (P.1 t).1 = 17 then (if zk v = 0 ∧ zv v < 0 then (t + 1, pl, fr, wy, sh, ct, out, (1, (P.1 t).2.2.2.2, 0)) else (t + 1, pl, fr, (1, (if zk v = 0 then none else some v), 0, 0, (if zk v = 0 then (zv v).toNatClampNeg else zn v), 0, fr.length, 0) :: wy, sh, ct, out, (0, -1, 0))) else _) = _
  rw [if_neg (by omega), if_neg (by omega), if_neg (by omega), if_neg (by omega), if_neg (by omega), if_neg (by omega), if_neg (by omega), if_neg (by omega), if_neg (by omega), if_pos h1, hP]
theorem doA_fornext (hP : P.1 t = (18, b, n, z, place)) : doA P fuel (t, pl, fr, wy, sh, ct, out, (0, -1, 0)) = afornext fuel (18, b, n, z, place) t pl fr wy sh ct out := by
  have h1 : (P.1 t).1 = 18 := by rw [hP]
  show (if (P.1 t).1 = 1 ∨ (P.1 t).1 = 16 then _ else if (P.1 t).1 = 2 then _ else if (P.1 t).1 = 3 then _ else if (P.1 t).1 < 11 then _ else if (P.1 t).1 = 11 then _ else if (P.1 t).1 = 12 then _ else if (P.1 t).1 = 13 then _ else if (P.1 t).1 = 14 then _ else if (P.1 t).1 = 15 then _ else if (P.1 t).1 = 17 then _ else if (P.1 t).1 = 18 then afornext fuel (P.1 t) t pl fr wy sh ct out else _) = _
  rw [if_neg (by omega), if_neg (by omega), if_neg (by omega), if_neg (by omega), if_neg (by omega), if_neg (by omega), if_neg (by omega), if_neg (by omega), if_neg (by omega), if_neg (by omega), if_pos h1, hP]
theorem afn_fuel {o : Od} {pc : Nat} (hf : ct.1 = fuel) : afornext fuel o pc pl fr wy sh ct out = (pc + 1, pl, fr, wy, sh, ct, out, (10, o.2.2.2.2, 0)) := by
  unfold afornext; rw [if_pos hf]
theorem afn_end {o : Od} {pc k c e p : Nat} {i : Int32} {ot : Option Th} (hf : ct.1 < fuel) : afornext fuel o pc pl fr ((1, ot, 0, c, c, k, e, i) :: wy) sh ct out = (o.2.1, pl, fr, wy, sh, (ct.1 + 1, ct.2), out, (0, -1, 0)) := by
  unfold afornext; rw [if_neg (by omega)]
  show (if c = c then _ else _) = _
  rw [if_pos rfl]
theorem afn_go {o : Od} {pc k b c e p : Nat} {i : Int32} {ot : Option Th} (hf : ct.1 < fuel) (hb : b < c) (hv : v = zfv b ot) : afornext fuel o pc pl fr ((1, ot, 0, b, c, k, e, i) :: wy) sh ct out = (pc + 1, pl, aputF fr o.2.2.1 v, (1, ot, 0, b + 1, c, k, e, i) :: wy, aputS sh o.2.2.1 v, (ct.1 + 1, ct.2), out, (0, -1, 0)) := by
  subst hv
  unfold afornext; rw [if_neg (by omega)]
  show (if b = c then _ else _) = _
  rw [if_neg (by omega)]
  cases ot <;> rfl
theorem cT.drop {tr : Nat × Int32 × Int32} (h : cT E f0 s0 fuel Bb (C ++ A) fr N sh ct out tr s f) : cT E f0 s0 fuel Bb C fr N sh ct out tr s f := ⟨h.1.cut, h.2⟩
/-- a trouble in what runs over a thing that lies on the component's pile, and with a way that is no try -/
theorem oT.way {σ σ' : AS} {q : Wy} (hq : ¬ q.1 = 2) (hr : aRch P fuel σ σ') (hs : aSame fr fr') (h : oT E f0 s0 fuel Bb P σ' (C ++ A) pl fr' N (q :: wy) s' f') : oT E f0 s0 fuel Bb P σ C pl fr N wy s' f' := by
  obtain ⟨σ1, pc, pl', fr1, frB, wy', sh', ct', out', tr, h1, h2, h3, h4, h4b, h5⟩ := h
  refine ⟨σ1, pc, pl', fr1, frB, wy', sh', ct', out', tr, hr.trans h1, h2, h3.drop, h4.trans hs.1, h4b.trans hs.2, ?_⟩
  rcases h5 with ⟨a1, a2, a3, a4, a5, ex, a6, a7⟩ | h5
  · refine Or.inl ⟨a1, a2, a3, a4, a5, ex ++ [q], by rw [a6, List.append_assoc]; rfl, fun r hr => ?_⟩
    rcases List.mem_append.mp hr with hr | hr
    · exact a7 r hr
    · rw [List.mem_singleton.mp hr]; exact hq
  · exact Or.inr h5
theorem aPre.way {q : Wy} (k : aPre C pl fr wy h (u + 1) L) (hq : q.1 = 1) (hu : u' + 1 ≤ u) (hh : h' + 2 ≤ h) (hl : fr'.length = fr.length) : aPre (C ++ [v]) pl fr' (q :: wy) h' (u' + 1) L := by
  obtain ⟨k1, k2, k3, k4, k5⟩ := k
  refine ⟨k1, by omega, by rw [List.length_append, List.length_singleton]; omega, by rw [List.length_cons]; omega, fun r hr h2 => ?_⟩
  rcases List.mem_cons.mp hr with rfl | hr
  · omega
  · obtain ⟨a, b, c, e⟩ := k5 r hr h2
    exact ⟨a, b, by omega, e⟩
theorem X_for (hst : l.stackTraces = false) (ih : NSp l E w f0 s0 fuel Bb P F M L g) (ihx : XSp l E w f0 s0 fuel Bb P F M L g) (hp : p < f0.2.2.2) (ho : oc f0 p 25) (hpl : vl f0 p 161 = .int place) (hnm : vl f0 p 187 = .int (nI n)) (hn : n < 8 + nv) (hr : RepN f0 P F M nv g (vl f0 p 188) a t h) (hPt : P.1 t = (17, x, y, z, place)) (hPn : P.1 (t + 1) = (18, b, n, z1, place)) (hu : u' + 1 ≤ u) (hh : h' + 2 ≤ h) (hb : RepX f0 P F M nv g false (vl f0 p 189) (t + 2) j u' h') (hPj : P.1 j = (15, t + 1, x2, z2, z3))
    (hd : KD L (g + 1) ≤ d) (hL : fr.length + L = 10) (hN : N.head? = some nv) (hpre : aPre C pl fr wy h (u + 1) L) (hR : cR E f0 s0 fuel Bb C fr N sh ct out s f) (hQ : ∀ o s' f', oD E f0 s0 fuel Bb P a b C pl fr N wy sh ct out o s' f' → Q o s' f') : EvC l E w d MX27_act [.ref p, .ref (w.1 3)] s f Q := by
  unfold KD at hd
  obtain ⟨d, rfl⟩ : ∃ d', d = d' + 4 := ⟨d - 4, by omega⟩
  have hF := hR.frz
  have hCl := hpre.2.2.1
  obtain ⟨p', e1, hw⟩ := ih nv _ a t h hr (d + 3) s f pl C fr N wy sh ct out (by unfold KD; omega) hL hN hpre.u1 hR _ (fun o s' f' q => q)
  refine eX27_act hst ⟨hF.ocE hp ho, p', by rw [hF.vlE hp]; exact e1, _, ?_, hw⟩
  rintro o s2 f3 (⟨rfl, v, sh2, ct2, out2, hct2, hrc2, hR2⟩ | ⟨rfl, hT⟩)
  · have hF3 := hR2.frz
    obtain ⟨hl8, e26, -, hvZ⟩ := hR2.hi
    have h17 : (P.1 t).1 = 17 := by rw [hPt]
    have h18 : (P.1 (t + 1)).1 = 18 := by rw [hPn]
    have hdo := doA_forin (fuel := fuel) (v := v) (pl := pl) (fr := fr) (wy := wy) (sh := sh2) (ct := ct2) (out := out2) hPt
    refine ⟨rfl, 25, hF3.ocE hp ho, by decide, by decide, place, by rw [hF3.vlE hp]; exact hpl, ?_⟩
    refine C_rounds hst hR2 (fun c c0 hT => ?_) (fun c => ?_)
    · rw [if_pos ⟨c, c0⟩] at hdo
      exact hQ _ _ _ (Or.inr (Or.inr ⟨rfl, _, t + 1, pl, fr, fr, wy, sh2, ct2, out2, (1, place, 0), hrc2, good1 (k := 17) hpre hvZ hR2.2.2.2.2.2 hR2.2.2.2.1 h17 (by decide) (by rw [hPt]; exact Nat.le_refl 1) (by rw [hdo]; exact fun _ => ⟨Nat.le_refl _, Nat.le_refl _, fun q hq _ => hq⟩), hT, rfl, rfl, Or.inl ⟨Nat.le_refl 1, by show 1 ≤ 9; decide, hdo, ⟨[], rfl⟩, ⟨[], rfl⟩, [], rfl, fun q hq => absurd hq List.not_mem_nil⟩⟩))
    rw [if_neg c] at hdo
    obtain ⟨cc, hcc⟩ : ∃ cc, cc = if zk v = 0 then (zv v).toNatClampNeg else zn v := ⟨_, rfl⟩
    obtain ⟨ot, hot⟩ : ∃ ot : Option Th, ot = if zk v = 0 then none else some v := ⟨_, rfl⟩
    rw [← hcc, ← hot] at hdo
    rw [← hcc]
    have hc31 : cc < 2 ^ 31 := by
      rw [hcc]; split
      · exact Int32.toNatClampNeg_lt _
      · have := zw_zn hvZ; omega
    have hF18 : ∀ k, k ≤ cc → aF18 ((1, ot, 0, k, cc, 0, fr.length, 0) :: wy) := fun k hk => ⟨rfl, hk, hc31, fun x hx => by
      rw [hot] at hx
      by_cases c0 : zk v = 0
      · rw [if_pos c0] at hx; cases hx
      · rw [if_neg c0] at hx; cases hx
        exact ⟨c0, by rw [hcc, if_neg c0]⟩⟩
    have hrc3 := hrc2.trans (one_ok (good1 (k := 17) hpre hvZ hR2.2.2.2.2.2 hR2.2.2.2.1 h17 (by decide) (by rw [hPt]; exact Nat.le_refl 1) (by rw [hdo]; exact fun z => absurd rfl z)) hdo rfl)
    refine ⟨_, rfl, fun y9 ey9 => ?_⟩
    rw [e26, nI_pred] at ey9
    subst ey9
    have good18 : ∀ (k : Nat) (fr' : List Fm) (sh' : Nat → Option Th) (ct' : Ct) (out' : List Int32), k ≤ cc → fr'.length = fr.length → (1 ≤ fr'.length ∧ fr'.length ≤ 10) → ct'.2.1 ≤ 3000 → (¬ (aT (afornext fuel (18, b, n, z1, place) (t + 1) pl fr' ((1, ot, 0, k, cc, 0, fr.length, 0) :: wy) sh' ct' out')).1 = 0 → ct'.1 = fuel) → aGood P fuel (t + 1, pl, fr', (1, ot, 0, k, cc, 0, fr.length, 0) :: wy, sh', ct', out', (0, -1, 0)) := by
      intro k fr' sh' ct' out' hk hl hf hm hz
      have hp' : aPre (C ++ [v]) pl fr' ((1, ot, 0, k, cc, 0, fr.length, 0) :: wy) h' (u' + 1) L := hpre.way rfl hu hh hl
      refine hp'.good (A := []) (fun x hx => absurd hx List.not_mem_nil) (Nat.zero_le _) hf hm ?_ (hp'.tk ?_)
      · exact ⟨by omega, by rw [hPn]; exact Nat.zero_le _, fun z => by omega, fun _ => hF18 k hk, fun z => by omega, fun z => by omega, fun z => by omega⟩
      · show ¬ (aT (doA P fuel (t + 1, pl, fr', (1, ot, 0, k, cc, 0, fr.length, 0) :: wy, sh', ct', out', (0, -1, 0)))).1 = 0 → pl.length ≤ (doA P fuel (t + 1, pl, fr', (1, ot, 0, k, cc, 0, fr.length, 0) :: wy, sh', ct', out', (0, -1, 0))).2.1.length ∧ fr'.length ≤ (doA P fuel (t + 1, pl, fr', (1, ot, 0, k, cc, 0, fr.length, 0) :: wy, sh', ct', out', (0, -1, 0))).2.2.1.length ∧ ∀ q ∈ (doA P fuel (t + 1, pl, fr', (1, ot, 0, k, cc, 0, fr.length, 0) :: wy, sh', ct', out', (0, -1, 0))).2.2.2.1, q.1 = 2 → q ∈ ((1, ot, 0, k, cc, 0, fr.length, 0) :: wy : List Wy)
        rw [doA_fornext hPn]
        intro q
        rw [afn_fuel (hz q)]
        exact ⟨Nat.le_refl _, Nat.le_refl _, fun q hq _ => hq⟩
    have fin : ∀ (k : Nat) (s : CS) (f : RH) (fr' : List Fm) (sh' : Nat → Option Th) (ct' : Ct) (out' : List Int32), k ≤ cc → aSame fr fr' → ct'.1 = fuel → aRch P fuel (a, pl, fr, wy, sh, ct, out, (0, -1, 0)) (t + 1, pl, fr', (1, ot, 0, k, cc, 0, fr.length, 0) :: wy, sh', ct', out', (0, -1, 0)) → (1 ≤ fr'.length ∧ fr'.length ≤ 10) → ct'.2.1 ≤ 3000 → cT E f0 s0 fuel Bb (C ++ [v]) fr' N sh' ct' out' (10, place, 0) s f → Q (.inr 9) s f := by
      intro k s f fr' sh' ct' out' hk hs hfu hrc hf hm hT
      have hd := doA_fornext (fuel := fuel) (pl := pl) (fr := fr') (wy := (1, ot, 0, k, cc, 0, fr.length, 0) :: wy) (sh := sh') (ct := ct') (out := out') hPn
      rw [afn_fuel hfu] at hd
      have hg := good18 k fr' sh' ct' out' hk hs.len hf hm (fun _ => hfu)
      have hstA := stA_fin (P := P) (fuel := fuel) (σ := (t + 1, pl, fr', (1, ot, 0, k, cc, 0, fr.length, 0) :: wy, sh', ct', out', (0, -1, 0))) (by rw [hd]; show 9 < 10; decide)
      rw [hd] at hstA
      exact hQ _ _ _ (Or.inr (Or.inr ⟨rfl, _, t + 1 + 1, pl, fr', fr', _, sh', ct', out', (10, place, 0), hrc, hg, hT.drop, hs.1, hs.2, Or.inr ⟨Nat.le_refl _, by show 10 ≤ 11; decide, _, hstA⟩⟩))
    refine dn (P := fun k => ∀ (s : CS) (f : RH) (fr' : List Fm) (sh' : Nat → Option Th) (ct' : Ct) (out' : List Int32), aSame fr fr' → ct.1 ≤ ct'.1 → aRch P fuel (a, pl, fr, wy, sh, ct, out, (0, -1, 0)) (t + 1, pl, fr', (1, ot, 0, k, cc, 0, fr.length, 0) :: wy, sh', ct', out', (0, -1, 0)) → cR E f0 s0 fuel Bb (C ++ [v]) fr' N sh' ct' out' s f → ExC l E w (d + 4) MX27_act 27 [some (.ref p), some (.ref (w.1 3)), some (.int (nI cc)), some (.int (nI C.length)), some (.int (nI k))] [] s f Q) cc ?_ (fun k hkm ihk => ?_) s2 f3 fr sh2 ct2 out2 (aSame.rf fr) hct2 hrc3 hR2
    · intro s f fr' sh' ct' out' hs hct hrc hR'
      have hF := hR'.frz
      refine vX27_act_27 (pk_le cc cc (fun _ => ⟨25, hF.ocE hp ho, by decide, by decide, place, by rw [hF.vlE hp]; exact hpl, ?_⟩) (fun c => by omega) rfl rfl)
      refine C_step hst hR' (fun hfu hT => fin cc _ _ fr' sh' ct' out' (Nat.le_refl _) hs hfu hrc hR'.2.2.2.2.2 hR'.2.2.2.1 hT) (fun hlt s1 hR1 => ⟨rfl, ?_⟩)
      refine C_drop1 hst hR1 (fun s2 hR2 => ⟨rfl, hQ _ _ _ (Or.inl ⟨rfl, fr', sh', _, out', hs, ?_, hrc.trans ?_, hR2⟩)⟩)
      · show ct.1 ≤ ct'.1 + 1; omega
      · have hd := doA_fornext (fuel := fuel) (pl := pl) (fr := fr') (wy := (1, ot, 0, cc, cc, 0, fr.length, 0) :: wy) (sh := sh') (ct := ct') (out := out') hPn
        rw [afn_end (p := 0) hlt] at hd
        refine one_ok (good18 cc fr' sh' ct' out' (Nat.le_refl _) hs.len hR'.2.2.2.2.2 hR'.2.2.2.1 ?_) hd rfl
        rw [afn_end (p := 0) hlt]; exact fun z => absurd rfl z
    · intro s f fr' sh' ct' out' hs hct hrc hR'
      have hF := hR'.frz
      refine vX27_act_27 (pk_le cc k (fun c => by omega) (fun _ => ⟨25, hF.ocE hp ho, by decide, by decide, place, by rw [hF.vlE hp]; exact hpl, ?_⟩) rfl rfl)
      refine C_step hst hR' (fun hfu hT => fin k _ _ fr' sh' ct' out' (by omega) hs hfu hrc hR'.2.2.2.2.2 hR'.2.2.2.1 hT) (fun hlt s1 hR1 => ⟨rfl, ?_⟩)
      obtain ⟨iv, hiv⟩ : ∃ iv, iv = if zk v = 0 then zI (nI k) else zel v k := ⟨_, rfl⟩
      have hivo : iv = zfv k ot := by
        rw [hiv, hot]
        by_cases c0 : zk v = 0
        · rw [if_pos c0, if_pos c0]; rfl
        · rw [if_neg c0, if_neg c0]; rfl
      have eg : (C ++ [v]).getD C.length (zI 0) = v := by rw [List.getD_eq_getElem?_getD, List.getElem?_append_right (Nat.le_refl _), Nat.sub_self]; rfl
      refine C_item hst hR1 (by rw [List.length_append, List.length_singleton]; omega) (by rw [List.length_append, List.length_singleton]; omega) eg (fun c0 => by rw [hcc, if_neg c0] at hkm; exact hkm) (fun s3 f4 hR3 => ?_)
      rw [← hiv] at hR3
      have hF4 := hR3.frz
      refine ⟨rfl, hF4.ocE hp ho, nI n, by rw [hF4.vlE hp]; exact hnm, ?_⟩
      refine C_put hst hR3 hN hn (fun s5 hR5 => ⟨rfl, hF4.ocE hp ho, ?_⟩)
      have hs5 := hs.trans (aSame.put fr' n iv)
      have hrc5 : aRch P fuel (a, pl, fr, wy, sh, ct, out, (0, -1, 0)) (t + 2, pl, aputF fr' n iv, (1, ot, 0, k + 1, cc, 0, fr.length, 0) :: wy, aputS sh' n iv, (ct'.1 + 1, ct'.2), out', (0, -1, 0)) := by
        refine hrc.trans ?_
        have hd := doA_fornext (fuel := fuel) (pl := pl) (fr := fr') (wy := (1, ot, 0, k, cc, 0, fr.length, 0) :: wy) (sh := sh') (ct := ct') (out := out') hPn
        rw [afn_go (p := 0) hlt hkm hivo] at hd
        refine one_ok (good18 k fr' sh' ct' out' (by omega) hs.len hR'.2.2.2.2.2 hR'.2.2.2.1 ?_) hd rfl
        rw [afn_go (p := 0) hlt hkm hivo]; exact fun z => absurd rfl z
      have hpre5 : aPre (C ++ [v]) pl (aputF fr' n iv) ((1, ot, 0, k + 1, cc, 0, fr.length, 0) :: wy) h' (u' + 1) L := hpre.way rfl hu hh hs5.len
      obtain ⟨q1, e1, o1, hw1⟩ := ihx nv _ (t + 2) j u' h' hb (d + 3) s5 f4 pl (C ++ [v]) _ N _ _ _ out' (by unfold KD; omega) (by rw [hs5.len]; exact hL) hN hpre5 hR5 (fun o s28 f29 => KP o (fun r => ∃ v30 : Int32, r = some (.int v30) ∧ ((v30 = 0 → ExC l E w (d + 3 + 1) MX27_act 27 [some (.ref p), some (.ref (w.1 3)), some (.int (nI cc)), some (.int (nI C.length)), some (.int (nI k + 1))] [] s28 f29 Q) ∧ (¬ v30 = 0 → (EvC l E w (d + 3) MX3_down [.ref (w.1 3), .int (nI C.length)] s28 f29 (fun o s31 f32 => KP o (fun r => r = none ∧ Q (.inl (some (.int 1))) s31 f32) (fun k => Q (.inr k) s31 f32)))))) (fun k => Q (.inr k) s28 f29)) (fun o s' f' q => by
        rcases q with ⟨rfl, fr4, sh4, ct4, out4, k1, k2, k3, k4⟩ | ⟨rfl, t', v', fr4, ex, sh4, ct4, out4, k1, k2, k3, k3b, k4, k5⟩ | ⟨rfl, q⟩
        · refine ⟨_, rfl, fun _ => ?_, fun z => absurd rfl z⟩
          rw [nI_1]
          have k2 : ct'.1 + 1 ≤ ct4.1 := k2
          exact ihk s' f' fr4 sh4 ct4 out4 (hs5.trans k1) (by omega) ((hrc5.trans k3).trans (goto_ok (hpre5.frs k1.len) k4.2.2.2.2.2 k4.2.2.2.1 hPj)) k4
        · refine ⟨_, rfl, fun z => absurd z (by decide), fun _ => ?_⟩
          have k2 : ct'.1 + 1 ≤ ct4.1 := k2
          refine C_down hst k5 (fun s6 hR6 => ⟨rfl, hQ _ _ _ (Or.inr (Or.inl ⟨rfl, t', v', fr4, ex ++ [(1, ot, 0, k + 1, cc, 0, fr.length, 0)], sh4, ct4, out4, hs5.trans k1, by omega, k3, ?_, ?_, hR6⟩))⟩)
          · rw [List.length_append]
            have : ex.length + ((1, ot, 0, k + 1, cc, 0, fr.length, 0) :: wy : List Wy).length ≤ 389 := k3b
            rw [List.length_cons] at this
            show ex.length + 1 + wy.length ≤ 389
            omega
          · rw [List.append_assoc]
            exact hrc5.trans k4
        · exact hQ _ _ _ (Or.inr (Or.inr ⟨rfl, oT.way (q := (1, ot, 0, k + 1, cc, 0, fr.length, 0)) (by show ¬ 1 = 2; decide) hrc5 hs5 q⟩)))
      exact ⟨q1, by rw [hF4.vlE hp]; exact e1, o1, hw1⟩
  · exact hQ _ _ _ (Or.inr (Or.inr ⟨rfl, hT⟩))
end CD7
