/-! THE COMPONENT'S TREES: literals, built-ins, chains, places: printed by gen_nodes.py -/
theorem RepN.h1 {f0 : RH} {P : Pg} {F : Nat → Nat} {M nv : Nat} : ∀ {g : Nat} {v : Value} {a b h : Nat}, RepN f0 P F M nv g v a b h → 1 ≤ h
  | 0, _, _, _, _, k => k.elim
  | _ + 1, _, _, _, _, ⟨_, _, _, _, _, k, _⟩ => k
theorem inB_k {k n : Nat} (h : k < n) (hk : k < 2 ^ 31) : inB (nI k) n := ⟨i32_nn k hk, by rw [nI_clamp hk]; exact h⟩
theorem take_rev (A pl : List Th) {m : Nat} (h : A.length = m) : ((A.reverse ++ pl).take m).reverse = A ∧ (A.reverse ++ pl).drop m = pl := by
  subst h
  have e : A.length = A.reverse.length := List.length_reverse.symm
  rw [e]
  exact ⟨by rw [List.take_left, List.reverse_reverse], List.drop_left⟩
section CN2
variable {l : Launch} {E : EN} {w : CO} {d : Nat} {s s' s0 : CS} {f f' f0 : RH} {Q : KO → CS → RH → Prop} {fuel : Nat} {Bb : Nat × Nat} {P : Pg} {F : Nat → Nat} {C pl A : List Th} {fr : List Fm} {N : List Nat} {wy : List Wy} {sh sh1 : Nat → Option Th} {ct ct1 : Ct} {out out1 : List Int32} {a b t h L p g M nv : Nat} {place : Int32}
theorem N_lit (hst : l.stackTraces = false) {q m x : Nat} {y : Int32} {V : Nat → Value} {c : Nat → Nat} (ih : NSp l E w f0 s0 fuel Bb P F M L g) (hp : p < f0.2.2.2) (ho : oc f0 p 16) (hpl : vl f0 p 165 = .int place) (hq : vl f0 p 167 = .ref q) (hn : nNs f0 q m V) (hmh : m ≤ h) (hc0 : c 0 = a) (hk : ∀ k, k < m → ∃ h', h' + k ≤ h ∧ RepN f0 P F M nv g (V k) (c k) (c (k + 1)) h') (hP : P.1 (c m) = (6, m, x, y, place)) (hh : 1 ≤ h) (hd : KD L (g + 1) ≤ d) (hL : fr.length + L = 10) (hN : N.head? = some nv) (hpre : aPre C pl fr wy h 1 L) (hR : cR E f0 s0 fuel Bb C fr N sh ct out s f) (hQ : ∀ o s' f', oN E f0 s0 fuel Bb P a (c m + 1) C pl fr N wy sh ct out o s' f' → Q o s' f') : EvC l E w d MX18_work [.ref p, .ref (w.1 3)] s f Q := by
  unfold KD at hd
  obtain ⟨d, rfl⟩ : ∃ d', d = d' + 6 := ⟨d - 6, by omega⟩
  obtain ⟨q1, q2, q3, q4, r, r1, r2, r3, r4, r5⟩ := hn
  have hop : 4 ≤ ((6, m, x, y, place) : Od).1 ∧ ((6, m, x, y, place) : Od).1 ≤ 8 := ⟨by show 4 ≤ 6; decide, by show 6 ≤ 8; decide⟩
  refine eX18_work hst ?_
  refine dn (P := fun k => ∀ (A : List Th) (s : CS) (f : RH) (sh' : Nat → Option Th) (ct' : Ct) (out' : List Int32), A.length = k → ct.1 ≤ ct'.1 → aRch P fuel (a, pl, fr, wy, sh, ct, out, (0, -1, 0)) (c k, A.reverse ++ pl, fr, wy, sh', ct', out', (0, -1, 0)) → cR E f0 s0 fuel Bb (C ++ A) fr N sh' ct' out' s f → ExC l E w (d + 6) MX18_work 2 [some (.ref p), some (.ref (w.1 3)), some (.int (nI k))] [] s f Q) m ?_ (fun k hkm ihk => ?_) [] s f sh ct out rfl (Nat.le_refl _) (by rw [hc0]; exact aRch.rf _ _ _) (by rw [List.append_nil]; exact hR)
  · intro A s f sh' ct' out' hA hct hrc hR'
    have hF := hR'.frz
    have hvZ : ∀ x ∈ A, ZW x := fun x hx => hR'.1.1.2.1 x (List.mem_append_right _ hx)
    obtain ⟨tk1, tk2⟩ := take_rev A pl hA
    refine vX18_work_2 ⟨hF.ocE hp ho, q, by rw [hF.vlE hp]; exact hq, hF.ocE q1 q2, nI m, by rw [hF.vlE q1]; exact q3, pk_le m m (fun _ => ⟨16, hF.ocE hp ho, by decide, by decide, place, by rw [hF.vlE hp]; exact hpl, ?_⟩) (fun c => by omega) rfl rfl⟩
    refine C_step hst hR' (fun hfu hT => hQ _ _ _ (Or.inr ⟨rfl, ord_fuel hpre hvZ (by omega) hrc hP hop rfl (by first | (show m ≤ A.length; omega) | (show A.length ≤ A.length; omega)) hR'.2.2.2.2.2 hR'.2.2.2.1 hfu hT⟩)) (fun hlt s1 hR1 => ⟨rfl, hF.ocE hp ho, q, by rw [hF.vlE hp]; exact hq, hF.ocE q1 q2, nI m, by rw [hF.vlE q1]; exact q3, 16, hF.ocE hp ho, by decide, by decide, place, by rw [hF.vlE hp]; exact hpl, ?_⟩)
    subst hA
    refine EvC.fz (C_literal hst (hR1.ok (A := A)) (fun o s' f' hc hFf hcb => oN.kp hQ (ord_cop (A := A) hpre hvZ (by omega) hct hrc hP hop rfl (by first | (show m ≤ A.length; omega) | (show A.length ≤ A.length; omega)) hh hlt ?_ (zkd_build A) hR1 hFf hcb hc)))
    show afin (c A.length + 1) (zbuild ((A.reverse ++ pl).take A.length).reverse) ((A.reverse ++ pl).drop A.length) fr wy sh' (ct'.1 + 1, ct'.2) out' place = _
    rw [tk1, tk2]
  · intro A s f sh' ct' out' hA hct hrc hR'
    have hF := hR'.frz
    have hvZ : ∀ x ∈ A, ZW x := fun x hx => hR'.1.1.2.1 x (List.mem_append_right _ hx)
    obtain ⟨h', hh', hrep⟩ := hk k hkm
    obtain ⟨p', e1, hw⟩ := ih nv _ (c k) (c (k + 1)) h' hrep (d + 6 - 1) s f (A.reverse ++ pl) (C ++ A) fr N wy sh' ct' out' (by unfold KD; omega) hL hN (hpre.add hvZ (by omega)) hR' _ (fun o s' f' q => q)
    refine vX18_work_2 ⟨hF.ocE hp ho, q, by rw [hF.vlE hp]; exact hq, hF.ocE q1 q2, nI m, by rw [hF.vlE q1]; exact q3, pk_le m k (fun c => by omega) (fun _ => ⟨hF.ocE hp ho, q, by rw [hF.vlE hp]; exact hq, hF.ocE q1 q2, r, by rw [hF.vlE q1]; exact r1, 5, by decide, by rw [hF.tgE r2]; exact r3, by rw [hF.lnE r2]; exact inB_k (by omega) (by omega), p', by rw [hF.vlE r2, nI_clamp (n := k) (by omega), r5 k hkm]; exact e1, _, ?_, hw⟩) rfl rfl⟩
    rintro o s2 f3 (⟨rfl, v, sh2, ct2, out2, hct2, hrc2, hR2⟩ | ⟨rfl, hT⟩)
    · refine ⟨rfl, ?_⟩
      rw [nI_1]
      refine ihk (A ++ [v]) s2 f3 sh2 ct2 out2 (by rw [List.length_append, hA]; rfl) (Nat.le_trans hct hct2) ?_ (by rw [← List.append_assoc]; exact hR2)
      rw [List.reverse_append]
      exact hrc.trans hrc2
    · exact hQ _ _ _ (Or.inr ⟨rfl, oT.up hrc hT⟩)
theorem N_bi (hst : l.stackTraces = false) {q m n : Nat} {y : Int32} {V : Nat → Value} {c : Nat → Nat} (ih : NSp l E w f0 s0 fuel Bb P F M L g) (hp : p < f0.2.2.2) (ho : oc f0 p 18) (hpl : vl f0 p 165 = .int place) (hq : vl f0 p 173 = .ref q) (hn : nNs f0 q m V) (hwh : vl f0 p 172 = .int (nI n)) (hbs : bsu n m) (hmh : m ≤ h) (hc0 : c 0 = a) (hk : ∀ k, k < m → ∃ h', h' + k ≤ h ∧ RepN f0 P F M nv g (V k) (c k) (c (k + 1)) h') (hP : P.1 (c m) = (8, n, m, y, place)) (hh : 1 ≤ h) (hd : KD L (g + 1) ≤ d) (hL : fr.length + L = 10) (hN : N.head? = some nv) (hpre : aPre C pl fr wy h 1 L) (hR : cR E f0 s0 fuel Bb C fr N sh ct out s f) (hQ : ∀ o s' f', oN E f0 s0 fuel Bb P a (c m + 1) C pl fr N wy sh ct out o s' f' → Q o s' f') : EvC l E w d MX20_work [.ref p, .ref (w.1 3)] s f Q := by
  unfold KD at hd
  obtain ⟨d, rfl⟩ : ∃ d', d = d' + 11 := ⟨d - 11, by omega⟩
  obtain ⟨q1, q2, q3, q4, r, r1, r2, r3, r4, r5⟩ := hn
  have hop : 4 ≤ ((8, n, m, y, place) : Od).1 ∧ ((8, n, m, y, place) : Od).1 ≤ 8 := ⟨by show 4 ≤ 8; decide, by show 8 ≤ 8; decide⟩
  refine eX20_work hst ?_
  refine dn (P := fun k => ∀ (A : List Th) (s : CS) (f : RH) (sh' : Nat → Option Th) (ct' : Ct) (out' : List Int32), A.length = k → ct.1 ≤ ct'.1 → aRch P fuel (a, pl, fr, wy, sh, ct, out, (0, -1, 0)) (c k, A.reverse ++ pl, fr, wy, sh', ct', out', (0, -1, 0)) → cR E f0 s0 fuel Bb (C ++ A) fr N sh' ct' out' s f → ExC l E w (d + 11) MX20_work 2 [some (.ref p), some (.ref (w.1 3)), some (.int (nI k))] [] s f Q) m ?_ (fun k hkm ihk => ?_) [] s f sh ct out rfl (Nat.le_refl _) (by rw [hc0]; exact aRch.rf _ _ _) (by rw [List.append_nil]; exact hR)
  · intro A s f sh' ct' out' hA hct hrc hR'
    have hF := hR'.frz
    have hvZ : ∀ x ∈ A, ZW x := fun x hx => hR'.1.1.2.1 x (List.mem_append_right _ hx)
    obtain ⟨tk1, tk2⟩ := take_rev A pl hA
    refine vX20_work_2 ⟨hF.ocE hp ho, q, by rw [hF.vlE hp]; exact hq, hF.ocE q1 q2, nI m, by rw [hF.vlE q1]; exact q3, pk_le m m (fun _ => ⟨18, hF.ocE hp ho, by decide, by decide, place, by rw [hF.vlE hp]; exact hpl, ?_⟩) (fun c => by omega) rfl rfl⟩
    refine C_step hst hR' (fun hfu hT => hQ _ _ _ (Or.inr ⟨rfl, ord_fuel hpre hvZ (by omega) hrc hP hop rfl (by first | (show m ≤ A.length; omega) | (show A.length ≤ A.length; omega)) hR'.2.2.2.2.2 hR'.2.2.2.1 hfu hT⟩)) (fun hlt s1 hR1 => ⟨rfl, hF.ocE hp ho, nI n, by rw [hF.vlE hp]; exact hwh, hF.ocE hp ho, q, by rw [hF.vlE hp]; exact hq, hF.ocE q1 q2, nI m, by rw [hF.vlE q1]; exact q3, 18, hF.ocE hp ho, by decide, by decide, place, by rw [hF.vlE hp]; exact hpl, ?_⟩)
    subst hA
    refine EvC.fz (C_builtIn hst hbs (hR1.ok (A := A)) (fun o s' f' hc hFf hcb => oN.kp hQ (ord_cop (A := A) hpre hvZ (by omega) hct hrc hP hop rfl (by first | (show m ≤ A.length; omega) | (show A.length ≤ A.length; omega)) hh hlt ?_ (zkd_bi _ _) hR1 hFf hcb hc)))
    show afin (c A.length + 1) (abi n ((A.reverse ++ pl).take A.length).reverse) ((A.reverse ++ pl).drop A.length) fr wy sh' (ct'.1 + 1, ct'.2) out' place = _
    rw [tk1, tk2]
  · intro A s f sh' ct' out' hA hct hrc hR'
    have hF := hR'.frz
    have hvZ : ∀ x ∈ A, ZW x := fun x hx => hR'.1.1.2.1 x (List.mem_append_right _ hx)
    obtain ⟨h', hh', hrep⟩ := hk k hkm
    obtain ⟨p', e1, hw⟩ := ih nv _ (c k) (c (k + 1)) h' hrep (d + 11 - 1) s f (A.reverse ++ pl) (C ++ A) fr N wy sh' ct' out' (by unfold KD; omega) hL hN (hpre.add hvZ (by omega)) hR' _ (fun o s' f' q => q)
    refine vX20_work_2 ⟨hF.ocE hp ho, q, by rw [hF.vlE hp]; exact hq, hF.ocE q1 q2, nI m, by rw [hF.vlE q1]; exact q3, pk_le m k (fun c => by omega) (fun _ => ⟨hF.ocE hp ho, q, by rw [hF.vlE hp]; exact hq, hF.ocE q1 q2, r, by rw [hF.vlE q1]; exact r1, 5, by decide, by rw [hF.tgE r2]; exact r3, by rw [hF.lnE r2]; exact inB_k (by omega) (by omega), p', by rw [hF.vlE r2, nI_clamp (n := k) (by omega), r5 k hkm]; exact e1, _, ?_, hw⟩) rfl rfl⟩
    rintro o s2 f3 (⟨rfl, v, sh2, ct2, out2, hct2, hrc2, hR2⟩ | ⟨rfl, hT⟩)
    · refine ⟨rfl, ?_⟩
      rw [nI_1]
      refine ihk (A ++ [v]) s2 f3 sh2 ct2 out2 (by rw [List.length_append, hA]; rfl) (Nat.le_trans hct hct2) ?_ (by rw [← List.append_assoc]; exact hR2)
      rw [List.reverse_append]
      exact hrc.trans hrc2
    · exact hQ _ _ _ (Or.inr ⟨rfl, oT.up hrc hT⟩)
theorem N_chain (hst : l.stackTraces = false) {q m : Nat} {V : Nat → Value} {S : Nat → Nat} {Lp : Nat → Int32} {c : Nat → Nat} (ih : NSp l E w f0 s0 fuel Bb P F M L g) (hp : p < f0.2.2.2) (ho : oc f0 p 23) (hq : vl f0 p 184 = .ref q) (hn : nNs f0 q m V) (hsg0 : nPs f0 q m 169 (fun k => nI (S k))) (hpls : nPs f0 q m 170 Lp) (hm1 : 1 ≤ m) (hfirst : RepN f0 P F M nv g (V 0) a (c 1) h) (hk : ∀ k, 1 ≤ k → k < m → ∃ (t x h' : Nat) (y : Int32), h' + 1 ≤ h ∧ RepN f0 P F M nv g (V k) (c k) t h' ∧ nI (S k) ∈ zSg ∧ P.1 t = (5, S k, x, y, Lp k) ∧ c (k + 1) = t + 1) (hh : 1 ≤ h) (hd : KD L (g + 1) ≤ d) (hL : fr.length + L = 10) (hN : N.head? = some nv) (hpre : aPre C pl fr wy h 1 L) (hR : cR E f0 s0 fuel Bb C fr N sh ct out s f) (hQ : ∀ o s' f', oN E f0 s0 fuel Bb P a (c m) C pl fr N wy sh ct out o s' f' → Q o s' f') : EvC l E w d MX25_work [.ref p, .ref (w.1 3)] s f Q := by
  unfold KD at hd
  obtain ⟨d, rfl⟩ : ∃ d', d = d' + 6 := ⟨d - 6, by omega⟩
  obtain ⟨q1, q2, q3, q4, r, r1, r2, r3, r4, r5⟩ := hn
  obtain ⟨z, z1, z2, z3, z4, z5⟩ := hpls
  obtain ⟨zs, zs1, zs2, zs3, zs4, zs5⟩ := hsg0
  have hF := hR.frz
  have loop := dn (P := fun j => ∀ (v : Th) (s : CS) (f : RH) (sh' : Nat → Option Th) (ct' : Ct) (out' : List Int32), ct.1 ≤ ct'.1 → aRch P fuel (a, pl, fr, wy, sh, ct, out, (0, -1, 0)) (c (j + 1), v :: pl, fr, wy, sh', ct', out', (0, -1, 0)) → cR E f0 s0 fuel Bb (C ++ [v]) fr N sh' ct' out' s f → ExC l E w (d + 6) MX25_work 15 [some (.ref p), some (.ref (w.1 3)), some (.int (nI (j + 1)))] [] s f Q) (m - 1) ?_ (fun j hj ihj => ?_)
  · obtain ⟨p', e1, hw⟩ := ih nv _ a (c 1) h hfirst (d + 6 - 1) s f pl C fr N wy sh ct out (by unfold KD; omega) hL hN hpre hR _ (fun o s' f' q => q)
    refine eX25_work hst ⟨hF.ocE hp ho, q, by rw [hF.vlE hp]; exact hq, hF.ocE q1 q2, r, by rw [hF.vlE q1]; exact r1, 5, by decide, by rw [hF.tgE r2]; exact r3, by rw [hF.lnE r2]; exact inB_k (k := 0) (by omega) (by omega), p', by rw [hF.vlE r2]; exact (r5 0 (by omega)).trans e1, _, ?_, hw⟩
    rintro o s2 f3 (⟨rfl, v, sh2, ct2, out2, hct2, hrc2, hR2⟩ | ⟨rfl, hT⟩)
    · exact ⟨rfl, loop v s2 f3 sh2 ct2 out2 hct2 hrc2 hR2⟩
    · exact hQ _ _ _ (Or.inr ⟨rfl, hT⟩)
  · intro v s f sh' ct' out' hct hrc hR'
    have hF := hR'.frz
    have em : m - 1 + 1 = m := by omega
    rw [em] at hrc ⊢
    exact vX25_work_15 ⟨hF.ocE hp ho, q, by rw [hF.vlE hp]; exact hq, hF.ocE q1 q2, nI m, by rw [hF.vlE q1]; exact q3, pk_le m m (fun _ => hQ _ _ _ (Or.inl ⟨rfl, v, sh', ct', out', hct, hrc, hR'⟩)) (fun c => by omega) rfl rfl⟩
  · intro v s f sh' ct' out' hct hrc hR'
    have hF := hR'.frz
    have hkm : j + 1 < m := by omega
    have hvZ : ∀ x ∈ [v], ZW x := fun x hx => hR'.1.1.2.1 x (List.mem_append_right _ hx)
    obtain ⟨t, x, h', y, hh', hrep, hsg, hP, hnx⟩ := hk (j + 1) (by omega) hkm
    have hop : 4 ≤ (5 : Nat) ∧ 5 ≤ 8 := ⟨by decide, by decide⟩
    obtain ⟨p', e1, hw⟩ := ih nv _ (c (j + 1)) t h' hrep (d + 6 - 1) s f ([v].reverse ++ pl) (C ++ [v]) fr N wy sh' ct' out' (by unfold KD; omega) hL hN (hpre.add hvZ hh') hR' _ (fun o s' f' q => q)
    refine vX25_work_15 ⟨hF.ocE hp ho, q, by rw [hF.vlE hp]; exact hq, hF.ocE q1 q2, nI m, by rw [hF.vlE q1]; exact q3, pk_le m (j + 1) (fun c => by omega) (fun _ => ⟨hF.ocE hp ho, q, by rw [hF.vlE hp]; exact hq, hF.ocE q1 q2, r, by rw [hF.vlE q1]; exact r1, 5, by decide, by rw [hF.tgE r2]; exact r3, by rw [hF.lnE r2]; exact inB_k (by omega) (by omega), p', by rw [hF.vlE r2, nI_clamp (n := j + 1) (by omega), r5 (j + 1) hkm]; exact e1, _, ?_, hw⟩) rfl rfl⟩
    rintro o s2 f3 (⟨rfl, v2, sh2, ct2, out2, hct2, hrc2, hR2⟩ | ⟨rfl, hT⟩)
    · have hF3 := hR2.frz
      have hR2' : cR E f0 s0 fuel Bb (C ++ [v, v2]) fr N sh2 ct2 out2 s2 f3 := by
        have e9 : C ++ [v] ++ [v2] = C ++ [v, v2] := by simp
        rw [← e9]; exact hR2
      have hvZ2 : ∀ x ∈ [v, v2], ZW x := fun x hx => hR2'.1.1.2.1 x (List.mem_append_right _ hx)
      have hrc3 : aRch P fuel (a, pl, fr, wy, sh, ct, out, (0, -1, 0)) (t, [v, v2].reverse ++ pl, fr, wy, sh2, ct2, out2, (0, -1, 0)) := hrc.trans hrc2
      have hh2 : [v, v2].length ≤ h := by have := hrep.h1; show 2 ≤ h; omega
      refine ⟨rfl, hF3.ocE hp ho, q, by rw [hF3.vlE hp]; exact hq, hF3.ocE q1 q2, z, by rw [hF3.vlE q1]; exact z1, by rw [hF3.tgE z2]; exact z3, by rw [hF3.lnE z2]; exact inB_k (by omega) (by omega), Lp (j + 1), by rw [hF3.vlE z2, nI_clamp (n := j + 1) (by omega)]; exact z5 (j + 1) hkm, ?_⟩
      refine C_step hst hR2' (fun hfu hT => hQ _ _ _ (Or.inr ⟨rfl, ord_fuel hpre hvZ2 hh2 hrc3 hP hop rfl (Nat.le_refl 2) hR2'.2.2.2.2.2 hR2'.2.2.2.1 hfu hT⟩)) (fun hlt s1 hR1 => ⟨rfl, hF3.ocE hp ho, q, by rw [hF3.vlE hp]; exact hq, hF3.ocE q1 q2, zs, by rw [hF3.vlE q1]; exact zs1, by rw [hF3.tgE zs2]; exact zs3, by rw [hF3.lnE zs2]; exact inB_k (by omega) (by omega), nI (S (j + 1)), by rw [hF3.vlE zs2, nI_clamp (n := j + 1) (by omega)]; exact zs5 (j + 1) hkm, hF3.ocE hp ho, q, by rw [hF3.vlE hp]; exact hq, hF3.ocE q1 q2, z, by rw [hF3.vlE q1]; exact z1, by rw [hF3.tgE z2]; exact z3, by rw [hF3.lnE z2]; exact inB_k (by omega) (by omega), Lp (j + 1), by rw [hF3.vlE z2, nI_clamp (n := j + 1) (by omega)]; exact z5 (j + 1) hkm, ?_⟩)
      refine EvC.fz (C_two hst hsg (hR1.ok (A := [v, v2])) (fun o s' f' hc hFf hcb => ?_))
      have hres := ord_cop (A := [v, v2]) hpre hvZ2 hh2 (Nat.le_trans hct hct2) hrc3 hP hop rfl (Nat.le_refl 2) hh hlt (by rfl) (zkd_two _ _ _) hR1 hFf hcb hc
      rw [← hnx] at hres
      rcases hres with ⟨rfl, v3, sh3, ct3, out3, hct3, hrc4, hR3⟩ | ⟨rfl, hT⟩
      · refine ⟨rfl, ?_⟩
        rw [nI_1]
        exact ihj v3 s' f' sh3 ct3 out3 hct3 hrc4 hR3
      · exact hQ _ _ _ (Or.inr ⟨rfl, hT⟩)
    · exact hQ _ _ _ (Or.inr ⟨rfl, oT.up (A := [v]) hrc hT⟩)
theorem N_places (hst : l.stackTraces = false) {q m : Nat} {V : Nat → Value} {Lp : Nat → Int32} {c : Nat → Nat} (ih : NSp l E w f0 s0 fuel Bb P F M L g) (hp : p < f0.2.2.2) (ho : oc f0 p 21) (hq : vl f0 p 181 = .ref q) (hn : nNs f0 q m V) (hpls : nPs f0 q m 170 Lp) (hm1 : 1 ≤ m) (hfirst : RepN f0 P F M nv g (V 0) a (c 1) h) (hk : ∀ k, 1 ≤ k → k < m → ∃ (t x zz h' : Nat) (y : Int32), h' + 1 ≤ h ∧ RepN f0 P F M nv g (V k) (c k) t h' ∧ P.1 t = (7, zz, x, y, Lp k) ∧ c (k + 1) = t + 1) (hh : 1 ≤ h) (hd : KD L (g + 1) ≤ d) (hL : fr.length + L = 10) (hN : N.head? = some nv) (hpre : aPre C pl fr wy h 1 L) (hR : cR E f0 s0 fuel Bb C fr N sh ct out s f) (hQ : ∀ o s' f', oN E f0 s0 fuel Bb P a (c m) C pl fr N wy sh ct out o s' f' → Q o s' f') : EvC l E w d MX23_work [.ref p, .ref (w.1 3)] s f Q := by
  unfold KD at hd
  obtain ⟨d, rfl⟩ : ∃ d', d = d' + 8 := ⟨d - 8, by omega⟩
  obtain ⟨q1, q2, q3, q4, r, r1, r2, r3, r4, r5⟩ := hn
  obtain ⟨z, z1, z2, z3, z4, z5⟩ := hpls
  have hF := hR.frz
  have loop := dn (P := fun j => ∀ (v : Th) (s : CS) (f : RH) (sh' : Nat → Option Th) (ct' : Ct) (out' : List Int32), ct.1 ≤ ct'.1 → aRch P fuel (a, pl, fr, wy, sh, ct, out, (0, -1, 0)) (c (j + 1), v :: pl, fr, wy, sh', ct', out', (0, -1, 0)) → cR E f0 s0 fuel Bb (C ++ [v]) fr N sh' ct' out' s f → ExC l E w (d + 8) MX23_work 15 [some (.ref p), some (.ref (w.1 3)), some (.int (nI (j + 1)))] [] s f Q) (m - 1) ?_ (fun j hj ihj => ?_)
  · obtain ⟨p', e1, hw⟩ := ih nv _ a (c 1) h hfirst (d + 8 - 1) s f pl C fr N wy sh ct out (by unfold KD; omega) hL hN hpre hR _ (fun o s' f' q => q)
    refine eX23_work hst ⟨hF.ocE hp ho, q, by rw [hF.vlE hp]; exact hq, hF.ocE q1 q2, r, by rw [hF.vlE q1]; exact r1, 5, by decide, by rw [hF.tgE r2]; exact r3, by rw [hF.lnE r2]; exact inB_k (k := 0) (by omega) (by omega), p', by rw [hF.vlE r2]; exact (r5 0 (by omega)).trans e1, _, ?_, hw⟩
    rintro o s2 f3 (⟨rfl, v, sh2, ct2, out2, hct2, hrc2, hR2⟩ | ⟨rfl, hT⟩)
    · exact ⟨rfl, loop v s2 f3 sh2 ct2 out2 hct2 hrc2 hR2⟩
    · exact hQ _ _ _ (Or.inr ⟨rfl, hT⟩)
  · intro v s f sh' ct' out' hct hrc hR'
    have hF := hR'.frz
    have em : m - 1 + 1 = m := by omega
    rw [em] at hrc ⊢
    exact vX23_work_15 ⟨hF.ocE hp ho, q, by rw [hF.vlE hp]; exact hq, hF.ocE q1 q2, nI m, by rw [hF.vlE q1]; exact q3, pk_le m m (fun _ => hQ _ _ _ (Or.inl ⟨rfl, v, sh', ct', out', hct, hrc, hR'⟩)) (fun c => by omega) rfl rfl⟩
  · intro v s f sh' ct' out' hct hrc hR'
    have hF := hR'.frz
    have hkm : j + 1 < m := by omega
    have hvZ : ∀ x ∈ [v], ZW x := fun x hx => hR'.1.1.2.1 x (List.mem_append_right _ hx)
    obtain ⟨t, x, zz, h', y, hh', hrep, hP, hnx⟩ := hk (j + 1) (by omega) hkm
    have hop : 4 ≤ (7 : Nat) ∧ 7 ≤ 8 := ⟨by decide, by decide⟩
    obtain ⟨p', e1, hw⟩ := ih nv _ (c (j + 1)) t h' hrep (d + 8 - 1) s f ([v].reverse ++ pl) (C ++ [v]) fr N wy sh' ct' out' (by unfold KD; omega) hL hN (hpre.add hvZ hh') hR' _ (fun o s' f' q => q)
    refine vX23_work_15 ⟨hF.ocE hp ho, q, by rw [hF.vlE hp]; exact hq, hF.ocE q1 q2, nI m, by rw [hF.vlE q1]; exact q3, pk_le m (j + 1) (fun c => by omega) (fun _ => ⟨hF.ocE hp ho, q, by rw [hF.vlE hp]; exact hq, hF.ocE q1 q2, r, by rw [hF.vlE q1]; exact r1, 5, by decide, by rw [hF.tgE r2]; exact r3, by rw [hF.lnE r2]; exact inB_k (by omega) (by omega), p', by rw [hF.vlE r2, nI_clamp (n := j + 1) (by omega), r5 (j + 1) hkm]; exact e1, _, ?_, hw⟩) rfl rfl⟩
    rintro o s2 f3 (⟨rfl, v2, sh2, ct2, out2, hct2, hrc2, hR2⟩ | ⟨rfl, hT⟩)
    · have hF3 := hR2.frz
      have hR2' : cR E f0 s0 fuel Bb (C ++ [v, v2]) fr N sh2 ct2 out2 s2 f3 := by
        have e9 : C ++ [v] ++ [v2] = C ++ [v, v2] := by simp
        rw [← e9]; exact hR2
      have hvZ2 : ∀ x ∈ [v, v2], ZW x := fun x hx => hR2'.1.1.2.1 x (List.mem_append_right _ hx)
      have hrc3 : aRch P fuel (a, pl, fr, wy, sh, ct, out, (0, -1, 0)) (t, [v, v2].reverse ++ pl, fr, wy, sh2, ct2, out2, (0, -1, 0)) := hrc.trans hrc2
      have hh2 : [v, v2].length ≤ h := by have := hrep.h1; show 2 ≤ h; omega
      refine ⟨rfl, hF3.ocE hp ho, q, by rw [hF3.vlE hp]; exact hq, hF3.ocE q1 q2, z, by rw [hF3.vlE q1]; exact z1, by rw [hF3.tgE z2]; exact z3, by rw [hF3.lnE z2]; exact inB_k (by omega) (by omega), Lp (j + 1), by rw [hF3.vlE z2, nI_clamp (n := j + 1) (by omega)]; exact z5 (j + 1) hkm, ?_⟩
      refine C_step hst hR2' (fun hfu hT => hQ _ _ _ (Or.inr ⟨rfl, ord_fuel hpre hvZ2 hh2 hrc3 hP hop rfl (Nat.le_refl 2) hR2'.2.2.2.2.2 hR2'.2.2.2.1 hfu hT⟩)) (fun hlt s1 hR1 => ⟨rfl, hF3.ocE hp ho, q, by rw [hF3.vlE hp]; exact hq, hF3.ocE q1 q2, z, by rw [hF3.vlE q1]; exact z1, by rw [hF3.tgE z2]; exact z3, by rw [hF3.lnE z2]; exact inB_k (by omega) (by omega), Lp (j + 1), by rw [hF3.vlE z2, nI_clamp (n := j + 1) (by omega)]; exact z5 (j + 1) hkm, ?_⟩)
      refine EvC.fz (C_at hst (hR1.ok (A := [v, v2])) (fun o s' f' hc hFf hcb => ?_))
      have hres := ord_cop (A := [v, v2]) hpre hvZ2 hh2 (Nat.le_trans hct hct2) hrc3 hP hop rfl (Nat.le_refl 2) hh hlt (by rfl) (zkd_index _ _) hR1 hFf hcb hc
      rw [← hnx] at hres
      rcases hres with ⟨rfl, v3, sh3, ct3, out3, hct3, hrc4, hR3⟩ | ⟨rfl, hT⟩
      · refine ⟨rfl, ?_⟩
        rw [nI_1]
        exact ihj v3 s' f' sh3 ct3 out3 hct3 hrc4 hR3
      · exact hQ _ _ _ (Or.inr ⟨rfl, hT⟩)
    · exact hQ _ _ _ (Or.inr ⟨rfl, oT.up (A := [v]) hrc hT⟩)
end CN2
