/-! THE COMPONENT'S TREES: blocks; a name gets a value; raise, return, a call alone; if -/
/-- what a deed does, whichever it is -/
def AK (l : Launch) (E : EN) (w : CO) (d p : Nat) (s : CS) (f : RH) (Q : KO → CS → RH → Prop) : Prop := ∃ k : Nat, oc f p k ∧ ((k = 14 ∧ EvC l E w d MX15_act [.ref p, .ref (w.1 3)] s f Q) ∨ (k = 24 ∧ EvC l E w d MX26_act [.ref p, .ref (w.1 3)] s f Q) ∨ (k = 25 ∧ EvC l E w d MX27_act [.ref p, .ref (w.1 3)] s f Q) ∨ (k = 26 ∧ EvC l E w d MX28_act [.ref p, .ref (w.1 3)] s f Q) ∨ (k = 27 ∧ EvC l E w d MX29_act [.ref p, .ref (w.1 3)] s f Q) ∨ (k = 28 ∧ EvC l E w d MX30_act [.ref p, .ref (w.1 3)] s f Q))
/-- deeds of height g do as their orders say -/
def DSp (l : Launch) (E : EN) (w : CO) (f0 : RH) (s0 : CS) (fuel : Nat) (Bb : Nat × Nat) (P : Pg) (F : Nat → Nat) (M L g : Nat) : Prop :=
  ∀ (nv : Nat) (v : Value) (a b u h : Nat), RepX f0 P F M nv g true v a b u h → ∀ (d : Nat) (s : CS) (f : RH) (pl C : List Th) (fr : List Fm) (N : List Nat) (wy : List Wy) (sh : Nat → Option Th) (ct : Ct) (out : List Int32), KD L g ≤ d → fr.length + L = 10 → N.head? = some nv → aPre C pl fr wy h (u + 1) L → cR E f0 s0 fuel (Bb.1, Bb.2 + 9000) C fr N sh ct out s f → ∀ Q : KO → CS → RH → Prop, (∀ o s' f', oD E f0 s0 fuel Bb P a b C pl fr N wy sh ct out o s' f' → Q o s' f') → ∃ p, v = .ref p ∧ AK l E w d p s f Q
/-- blocks of height g -/
def XSp (l : Launch) (E : EN) (w : CO) (f0 : RH) (s0 : CS) (fuel : Nat) (Bb : Nat × Nat) (P : Pg) (F : Nat → Nat) (M L g : Nat) : Prop :=
  ∀ (nv : Nat) (v : Value) (a b u h : Nat), RepX f0 P F M nv g false v a b u h → ∀ (d : Nat) (s : CS) (f : RH) (pl C : List Th) (fr : List Fm) (N : List Nat) (wy : List Wy) (sh : Nat → Option Th) (ct : Ct) (out : List Int32), KD L g ≤ d → fr.length + L = 10 → N.head? = some nv → aPre C pl fr wy h (u + 1) L → cR E f0 s0 fuel Bb C fr N sh ct out s f → ∀ Q : KO → CS → RH → Prop, (∀ o s' f', oD E f0 s0 fuel Bb P a b C pl fr N wy sh ct out o s' f' → Q o s' f') → ∃ p, v = .ref p ∧ oc f p 13 ∧ EvC l E w d MX13_act [.ref p, .ref (w.1 3)] s f Q
section CD1
variable {l : Launch} {E : EN} {w : CO} {d : Nat} {s s' s0 : CS} {f f' f0 : RH} {Q : KO → CS → RH → Prop} {fuel : Nat} {Bb : Nat × Nat} {P : Pg} {F : Nat → Nat} {C pl A : List Th} {fr fr' : List Fm} {N : List Nat} {wy : List Wy} {sh sh' : Nat → Option Th} {ct ct' : Ct} {out out' : List Int32} {a b t h u L p g M nv : Nat} {place : Int32}
theorem cR.slack {Bb' : Nat × Nat} (h : cR E f0 s0 fuel Bb C fr N sh ct out s f) (h1 : Bb.1 = Bb'.1) (hk : out.length + Bb'.2 ≤ 9000 * ct.1) : cR E f0 s0 fuel Bb' C fr N sh ct out s f := by
  obtain ⟨x, y⟩ := Bb
  obtain ⟨x', y'⟩ := Bb'
  have h1 : x = x' := h1
  subst h1
  obtain ⟨⟨b1, b2, b3, b4, ⟨c1, c2, c3, c4⟩, b6⟩, g⟩ := h
  exact ⟨⟨b1, b2, b3, b4, ⟨c1, c2, c3, hk⟩, b6⟩, g⟩
theorem cR.le9 {Bb' : Nat × Nat} (h : cR E f0 s0 fuel Bb C fr N sh ct out s f) (h1 : Bb.1 = Bb'.1) (hk : Bb'.2 ≤ Bb.2) : cR E f0 s0 fuel Bb' C fr N sh ct out s f := h.slack h1 (by have := h.1.2.2.2.2.1.2.2.2; omega)
theorem cT.le9 {Bb' : Nat × Nat} {tr : Nat × Int32 × Int32} (h : cT E f0 s0 fuel Bb C fr N sh ct out tr s f) (h1 : Bb.1 = Bb'.1) (hk : Bb'.2 ≤ Bb.2) : cT E f0 s0 fuel Bb' C fr N sh ct out tr s f := by
  obtain ⟨x, y⟩ := Bb
  obtain ⟨x', y'⟩ := Bb'
  have h1 : x = x' := h1
  have hk : y' ≤ y := hk
  subst h1
  obtain ⟨⟨b1, b2, b3, b4, ⟨c1, c2, c3, c4⟩, b6⟩, g⟩ := h
  have c4 : out.length + y ≤ 9000 * ct.1 := c4
  exact ⟨⟨b1, b2, b3, b4, ⟨c1, c2, c3, by show out.length + y' ≤ 9000 * ct.1; omega⟩, b6⟩, g⟩
theorem oT.le9 {Bb' : Nat × Nat} {σ : AS} (h : oT E f0 s0 fuel Bb P σ C pl fr N wy s f) (h1 : Bb.1 = Bb'.1) (hk : Bb'.2 ≤ Bb.2) : oT E f0 s0 fuel Bb' P σ C pl fr N wy s f := by
  obtain ⟨σ1, pc, pl', fr1, frB, wy', sh1, ct1, out1, tr, q1, q2, q3, q4⟩ := h
  exact ⟨σ1, pc, pl', fr1, frB, wy', sh1, ct1, out1, tr, q1, q2, q3.le9 h1 hk, q4⟩
theorem aPre.u1 (k : aPre C pl fr wy h (u + 1) L) : aPre C pl fr wy h 1 L := ⟨k.1, k.2.1, k.2.2.1, by have := k.2.2.2.1; omega, k.2.2.2.2⟩
theorem aPre.frs (k : aPre C pl fr wy h u L) (hl : fr'.length = fr.length) : aPre C pl fr' wy h u L := ⟨k.1, k.2.1, k.2.2.1, k.2.2.2.1, fun q hq h2 => by
  obtain ⟨a, b, c, e⟩ := k.2.2.2.2 q hq h2
  exact ⟨a, b, by omega, e⟩⟩
/-- a step of the flat machine that goes on -/
theorem one_ok {σ σ' : AS} (hg : aGood P fuel σ) (hd : doA P fuel σ = σ') (h0 : (aT σ').1 = 0) : aRch P fuel σ σ' := aRch.one hg (by rw [stA_ok (by rw [hd]; exact h0), hd])
theorem good1 {k : Nat} {v : Th} (hpre : aPre C pl fr wy h u L) (hv : ZW v) (hf : 1 ≤ fr.length ∧ fr.length ≤ 10) (hm : ct.2.1 ≤ 3000) (hk : (P.1 t).1 = k) (h0 : k ≠ 0 ∧ k ≠ 11 ∧ k ≠ 18 ∧ k ≠ 24 ∧ k ≠ 20 ∧ k ≠ 19) (hn : aNeed (P.1 t) ≤ 1) (htk : ¬ (aT (doA P fuel (t, v :: pl, fr, wy, sh, ct, out, (0, -1, 0)))).1 = 0 → pl.length ≤ (doA P fuel (t, v :: pl, fr, wy, sh, ct, out, (0, -1, 0))).2.1.length ∧ fr.length ≤ (doA P fuel (t, v :: pl, fr, wy, sh, ct, out, (0, -1, 0))).2.2.1.length ∧ ∀ q ∈ (doA P fuel (t, v :: pl, fr, wy, sh, ct, out, (0, -1, 0))).2.2.2.1, q.1 = 2 → q ∈ wy) : aGood P fuel (t, v :: pl, fr, wy, sh, ct, out, (0, -1, 0)) :=
  hpre.good (A := [v]) (fun x hx => by rw [List.mem_singleton.mp hx]; exact hv) (by show 1 ≤ h + 100; omega) hf hm (fit_of hk h0 (by show aNeed (P.1 t) ≤ ([v] ++ pl).length; rw [List.length_append]; exact Nat.le_trans hn (Nat.le_add_right 1 _))) (hpre.tk htk)
theorem X_put (hst : l.stackTraces = false) {n x : Nat} {z z1 : Int32} (ih : NSp l E w f0 s0 fuel Bb P F M L g) (hp : p < f0.2.2.2) (ho : oc f0 p 28) (hnm : vl f0 p 196 = .int (nI n)) (hn : n < 8 + nv) (h200 : vl f0 p 200 = .null) (h201 : vl f0 p 201 = .null) (hr : RepN f0 P F M nv g (vl f0 p 202) a t h) (hP : P.1 t = (12, n, x, z, z1)) (hd : KD L (g + 1) ≤ d) (hL : fr.length + L = 10) (hN : N.head? = some nv) (hpre : aPre C pl fr wy h (u + 1) L) (hR : cR E f0 s0 fuel Bb C fr N sh ct out s f) (hQ : ∀ o s' f', oD E f0 s0 fuel Bb P a (t + 1) C pl fr N wy sh ct out o s' f' → Q o s' f') : EvC l E w d MX30_act [.ref p, .ref (w.1 3)] s f Q := by
  unfold KD at hd
  obtain ⟨d, rfl⟩ : ∃ d', d = d' + 4 := ⟨d - 4, by omega⟩
  have hF := hR.frz
  obtain ⟨p', e1, hw⟩ := ih nv _ a t h hr (d + 3) s f pl C fr N wy sh ct out (by unfold KD; omega) hL hN hpre.u1 hR _ (fun o s' f' q => q)
  refine eX30_act hst ⟨hF.ocE hp ho, .null, by rw [hF.vlE hp]; exact h200, rfl, fun _ => ⟨hF.ocE hp ho, .null, by rw [hF.vlE hp]; exact h201, rfl, fun _ => ⟨hF.ocE hp ho, p', by rw [hF.vlE hp]; exact e1, _, ?_, hw⟩, fun a e => by cases e⟩, fun a e => by cases e⟩
  rintro o s2 f3 (⟨rfl, v, sh2, ct2, out2, hct2, hrc2, hR2⟩ | ⟨rfl, hT⟩)
  · have hF3 := hR2.frz
    refine ⟨rfl, hF3.ocE hp ho, .null, by rw [hF3.vlE hp]; exact h200, rfl, fun _ => ⟨hF3.ocE hp ho, nI n, by rw [hF3.vlE hp]; exact hnm, ?_⟩, fun a e => by cases e⟩
    refine C_put hst hR2 hN hn (fun s1 hR1 => ⟨rfl, hQ _ _ _ (Or.inl ⟨rfl, aputF fr n v, aputS sh2 n v, ct2, out2, aSame.put fr n v, hct2, hrc2.trans ?_, hR1⟩)⟩)
    have h1 : (P.1 t).1 = 12 := by rw [hP]
    have hdo : doA P fuel (t, v :: pl, fr, wy, sh2, ct2, out2, (0, -1, 0)) = (t + 1, pl, aputF fr n v, wy, aputS sh2 n v, ct2, out2, (0, -1, 0)) := by
      show (if (P.1 t).1 = 1 ∨ (P.1 t).1 = 16 then _ else if (P.1 t).1 = 2 then _ else if (P.1 t).1 = 3 then _ else if (P.1 t).1 < 11 then _ else if (P.1 t).1 = 11 then _ else if (P.1 t).1 = 12 then (t + 1, pl, aputF fr (P.1 t).2.1 v, wy, aputS sh2 (P.1 t).2.1 v, ct2, out2, (0, -1, 0)) else _) = _
      rw [if_neg (by omega), if_neg (by omega), if_neg (by omega), if_neg (by omega), if_neg (by omega), if_pos h1, hP]
    refine one_ok (good1 hpre hR2.hi.2.2.2 hR2.2.2.2.2.2 hR2.2.2.2.1 h1 (by decide) (by rw [hP]; exact Nat.le_refl 1) ?_) hdo rfl
    rw [hdo]
    exact fun z => absurd rfl z
  · exact hQ _ _ _ (Or.inr (Or.inr ⟨rfl, hT⟩))
end CD1
