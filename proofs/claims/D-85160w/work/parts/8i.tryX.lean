/-! THE COMPONENT'S TREES: try -/
section CD6
variable {l : Launch} {E : EN} {w : CO} {d : Nat} {s s' s0 : CS} {f f' f0 : RH} {Q : KO → CS → RH → Prop} {fuel : Nat} {Bb : Nat × Nat} {P : Pg} {F : Nat → Nat} {C pl A : List Th} {fr fr' : List Fm} {N : List Nat} {wy : List Wy} {sh sh' : Nat → Option Th} {ct ct' : Ct} {out out' : List Int32} {a b t j e n h u u' L p g M nv x y x1 x2 : Nat} {z z1 z2 z3 place on : Int32}
theorem X_try (hst : l.stackTraces = false) (ihx : XSp l E w f0 s0 fuel Bb P F M L g) (hp : p < f0.2.2.2) (ho : oc f0 p 27) (hnm : vl f0 p 192 = .int (nI n)) (hn : n < 8 + nv) (hon : vl f0 p 193 = .int on) (hPa : P.1 a = (23, e, n, z, on)) (hu : u' + 1 ≤ u) (hb : RepX f0 P F M nv g false (vl f0 p 194) (a + 1) j u' h) (hPj : P.1 j = (24, b, x, z1, z2)) (hbo : RepX f0 P F M nv g false (vl f0 p 195) e b u h)
    (hd : KD L (g + 1) ≤ d) (hL : fr.length + L = 10) (hN : N.head? = some nv) (hpre : aPre C pl fr wy h (u + 1) L) (hR : cR E f0 s0 fuel Bb C fr N sh ct out s f) (hQ : ∀ o s' f', oD E f0 s0 fuel Bb P a b C pl fr N wy sh ct out o s' f' → Q o s' f') : EvC l E w d MX29_act [.ref p, .ref (w.1 3)] s f Q := by
  unfold KD at hd
  obtain ⟨d, rfl⟩ : ∃ d', d = d' + 4 := ⟨d - 4, by omega⟩
  have hF := hR.frz
  have hf := hR.2.2.2.2.2
  have hCl := hpre.2.2.1
  have hnv : nv ≤ 14 := by
    have hc := hR.1.2.1
    match fr, N, hN, hf.1, hc with
    | q :: r, n' :: ns, hN, _, hc =>
      injection hN with hN
      rw [← hN]; exact hc.1.1
  have hd1 := doA_tries (fuel := fuel) (pl := pl) (fr := fr) (wy := wy) (sh := sh) (ct := ct) (out := out) hPa
  have hrc0 : aRch P fuel (a, pl, fr, wy, sh, ct, out, (0, -1, 0)) (a + 1, pl, fr, (2, none, e, n, 0, pl.length, fr.length, on) :: wy, sh, ct, out, (0, -1, 0)) := by
    refine one_ok (good0 (k := 23) hpre hf hR.2.2.2.1 (by rw [hPa]) (by decide) (by rw [hPa]; rfl) ?_) hd1 rfl
    rw [hd1]; exact fun z => absurd rfl z
  have hpre1 : aPre C pl fr ((2, none, e, n, 0, pl.length, fr.length, on) :: wy) h (u' + 1) L := by
    obtain ⟨k1, k2, k3, k4, k5⟩ := hpre
    refine ⟨k1, k2, k3, by rw [List.length_cons]; omega, fun q hq h2 => ?_⟩
    rcases List.mem_cons.mp hq with rfl | hq
    · exact ⟨Nat.le_refl _, hf.1, Nat.le_refl _, by show n < 22; omega⟩
    · exact k5 q hq h2
  refine eX29_act hst (fun y1 ey1 y2 ey2 => ?_)
  rw [hR.2.1] at ey1
  rw [hR.2.2.1] at ey2
  subst ey1 ey2
  obtain ⟨q1, e1, o1, hw1⟩ := ihx nv _ (a + 1) j u' h hb (d + 3) s f pl C fr N _ sh ct out (by unfold KD; omega) hL hN hpre1 hR (fun o s4 f5 => KP o (fun r => ∃ v6 : Int32, r = some (.int v6) ∧ (narrow .boolean (.int v6) = .int v6 ∧ Q (.inl (some (.int v6))) s4 f5)) (fun k => (k = 9 ∧ (oc f5 p 27 ∧ (∃ v7 : Int32, vl f5 p 193 = .int v7 ∧ (EvC l E w (d + 3) MX3_taken [.ref (w.1 3), .ref (w.1 9), .int (nI C.length), .int (nI fr.length), .int v7] s4 f5 (fun o s8 f9 => KP o (fun r => r = none ∧ (oc f9 p 27 ∧ (∃ v10 : Int32, vl f9 p 192 = .int v10 ∧ (EvC l E w (d + 3) MX3_put [.ref (w.1 3), .int v10] s8 f9 (fun o s11 f12 => KP o (fun r => r = none ∧ (oc f12 p 27 ∧ (∃ a13 : Nat, vl f12 p 195 = .ref a13 ∧ (oc f12 a13 13 ∧ EvC l E w (d + 3) MX13_act [.ref a13, .ref (w.1 3)] s11 f12 (fun o s14 f15 => KP o (fun r => ∃ v16 : Int32, r = some (.int v16) ∧ (narrow .boolean (.int v16) = .int v16 ∧ Q (.inl (some (.int v16))) s14 f15)) (fun k => Q (.inr k) s14 f15)))))) (fun k => Q (.inr k) s11 f12)))))) (fun k => Q (.inr k) s8 f9)))))))) (fun o s4 f5 k => by
    rcases k with ⟨rfl, fr4, sh4, ct4, out4, k1, k2, k3, k4⟩ | ⟨rfl, t, v, fr4, ex, sh4, ct4, out4, k1, k2, k3, k3b, k4, k5⟩ | ⟨rfl, σ1, pc, pl1, fr1, frB, wy1, sh1, ct1, out1, tr, h1, h2, h3, h4, h4b, h5⟩
    · refine ⟨_, rfl, nb_0, hQ _ _ _ (Or.inl ⟨rfl, fr4, sh4, ct4, out4, k1, k2, (hrc0.trans k3).trans ?_, k4⟩)⟩
      have hd2 := doA_tried (fuel := fuel) (q := (2, none, e, n, 0, pl.length, fr.length, on)) (pl := pl) (fr := fr4) (wy := wy) (sh := sh4) (ct := ct4) (out := out4) hPj
      refine one_ok ((hpre1.frs k1.len).good (A := []) (fun x hx => absurd hx List.not_mem_nil) (Nat.zero_le _) k4.2.2.2.2.2 k4.2.2.2.1 ?_ ?_) hd2 rfl
      · have h24 : (P.1 j).1 = 24 := by rw [hPj]
        exact ⟨by omega, by rw [hPj]; exact Nat.zero_le _, fun z => by omega, fun z => by omega, fun _ => Nat.le_add_left _ _, fun z => by omega, fun z => by omega⟩
      · show aTk (doA P fuel (j, pl, fr4, (2, none, e, n, 0, pl.length, fr.length, on) :: wy, sh4, ct4, out4, (0, -1, 0)))
        rw [hd2]; exact fun z => absurd rfl z
    · refine ⟨_, rfl, nb_1, hQ _ _ _ (Or.inr (Or.inl ⟨rfl, t, v, fr4, ex ++ [(2, none, e, n, 0, pl.length, fr.length, on)], sh4, ct4, out4, k1, k2, k3, ?_, ?_, k5⟩))⟩
      · rw [List.length_append]
        have : ex.length + ((2, none, e, n, 0, pl.length, fr.length, on) :: wy : List Wy).length ≤ 389 := k3b
        rw [List.length_cons] at this
        show ex.length + 1 + wy.length ≤ 389
        omega
      · rw [List.append_assoc]
        exact hrc0.trans k4
    · have hsB : aSame fr frB := ⟨h4, h4b⟩
      have hF5 : Frz f0 f5 := h3.1.2.2.2.2.2.2.2.2.2.1
      have hrc1 := hrc0.trans h1
      have htr : tr.1 ≤ 11 := by
        rcases h5 with h5 | h5
        · have := h5.2.1; omega
        · exact h5.2.1
      rw [← hsB.len]
      refine ⟨rfl, hF5.ocE hp ho, on, by rw [hF5.vlE hp]; exact hon, ?_⟩
      refine C_taken hst h3 (by omega) (by rw [hsB.len]; exact hf) (by omega) (fun h10 => ?_) (fun h9 hok s1 hR1 => ?_) (fun h9 hbad s1 hT => ?_)
      · rcases h5 with h5 | ⟨g1, g2, g3⟩
        · have := h5.2.1; omega
        · exact hQ _ _ _ (Or.inr (Or.inr ⟨rfl, σ1, pc, pl1, fr1, frB, wy1, sh1, ct1, out1, tr, hrc1, h2, h3, h4, h4b, Or.inr ⟨g1, g2, g3⟩⟩))
      · rcases h5 with ⟨g1, g2, g3, ⟨ex1, rfl⟩, ⟨ex2, rfl⟩, ex3, rfl, g6⟩ | ⟨g1, _⟩
        · have hst1 : stA P fuel σ1 = (e, pl, aputF frB n (zI (if tr.1 = 9 then tr.2.2 else nI tr.1)), wy, aputS sh1 n (zI (if tr.1 = 9 then tr.2.2 else nI tr.1)), (ct1.1, ct1.2.1 + 300, ct1.2.2.1, ct1.2.2.2 + 1), out1, (0, -1, 0)) := by
            unfold stA
            rw [g3, if_neg (by show ¬ tr.1 = 0; omega)]
            have hk := takeA_try (pc := pc) (exp := ex1) (exf := ex2) (frB := frB) (exw := ex3) (r1 := tr.2.1) (r2 := tr.2.2) (fr := fr) (pl := pl) (wy := wy) (e := e) (n := n) (on := on) (sh := sh1) (ct := ct1) (out := out1) h9 hsB.len g6
            rw [if_neg (show ¬ 3000 < ct1.2.1 + 300 by omega)] at hk
            exact hk
          have hrc2 := hrc1.trans (aRch.one h2 hst1)
          have hmon : ct.1 ≤ ct1.1 := hrc2.mono
          refine ⟨rfl, hF5.ocE hp ho, nI n, by rw [hF5.vlE hp]; exact hnm, ?_⟩
          refine C_put hst hR1 hN hn (fun s2 hR2 => ?_)
          have hs2 := hsB.trans (aSame.put frB n (zI (if tr.1 = 9 then tr.2.2 else nI tr.1)))
          obtain ⟨q2, e2, o2, hw2⟩ := ihx nv _ e b u h hbo (d + 3) s2 f5 pl C _ N wy _ _ out1 (by unfold KD; omega) (by rw [hs2.len]; exact hL) hN (hpre.frs hs2.len) hR2 (fun o s14 f15 => KP o (fun r => ∃ v16 : Int32, r = some (.int v16) ∧ (narrow .boolean (.int v16) = .int v16 ∧ Q (.inl (some (.int v16))) s14 f15)) (fun k => Q (.inr k) s14 f15)) (fun o s' f' k => by
            have k' := hQ _ _ _ (oD.after hrc2 hs2 hmon k)
            rcases k with ⟨rfl, -⟩ | ⟨rfl, -⟩ | ⟨rfl, -⟩
            · exact ⟨_, rfl, nb_0, k'⟩
            · exact ⟨_, rfl, nb_1, k'⟩
            · exact k')
          exact ⟨rfl, hF5.ocE hp ho, q2, by rw [hF5.vlE hp]; exact e2, o2, hw2⟩
        · omega
      · rcases h5 with ⟨g1, g2, g3, ⟨ex1, rfl⟩, ⟨ex2, rfl⟩, ex3, rfl, g6⟩ | ⟨g1, _⟩
        · have hst1 : stA P fuel σ1 = (e, pl, aputF frB n (zI (if tr.1 = 9 then tr.2.2 else nI tr.1)), wy, aputS sh1 n (zI (if tr.1 = 9 then tr.2.2 else nI tr.1)), (ct1.1, ct1.2.1 + 300, ct1.2.2.1, ct1.2.2.2 + 1), out1, (11, on, 0)) := by
            unfold stA
            rw [g3, if_neg (by show ¬ tr.1 = 0; omega)]
            have hk := takeA_try (pc := pc) (exp := ex1) (exf := ex2) (frB := frB) (exw := ex3) (r1 := tr.2.1) (r2 := tr.2.2) (fr := fr) (pl := pl) (wy := wy) (e := e) (n := n) (on := on) (sh := sh1) (ct := ct1) (out := out1) h9 hsB.len g6
            rw [if_pos hbad] at hk
            exact hk
          exact hQ _ _ _ (Or.inr (Or.inr ⟨rfl, σ1, e, pl, _, frB, wy, sh1, _, out1, (11, on, 0), hrc1, h2, hT, h4, h4b, Or.inr ⟨by show 10 ≤ 11; decide, Nat.le_refl 11, _, hst1⟩⟩))
        · omega)
  exact ⟨hF.ocE hp ho, q1, by rw [hF.vlE hp]; exact e1, o1, hw1⟩
end CD6
