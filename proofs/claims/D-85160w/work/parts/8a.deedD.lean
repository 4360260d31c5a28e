/-! THE COMPONENT'S TREES: deeds and blocks: what they stand for, what they leave -/
/-- a block (false) or a deed (true, behind its STATEMENT) stands for the orders from a up to b; u: so much it may have under way; h: pile use -/
def RepX (f0 : RH) (P : Pg) (F : Nat → Nat) (M nv : Nat) : Nat → Bool → Value → Nat → Nat → Nat → Nat → Prop
  | 0, _, _, _, _, _, _ => False
  | g + 1, false, v, a, b, u, h => ∃ (p m r : Nat) (V : Nat → Value) (c : Nat → Nat), v = .ref p ∧ p < f0.2.2.2 ∧ oc f0 p 13 ∧ vl f0 p 160 = .int (nI m) ∧ m ≤ 1000 ∧ vl f0 p 159 = .ref r ∧ r < f0.2.2.2 ∧ tg f0 r = some (.inr 6) ∧ m ≤ ln f0 r ∧ (∀ k, k < m → vl f0 r k = V k) ∧ c 0 = a ∧ c m = b ∧
      ∀ k, k < m → ∃ (q x y : Nat) (z pl : Int32), V k = .ref q ∧ q < f0.2.2.2 ∧ vl f0 q 161 = .int pl ∧ P.1 (c k) = (1, x, y, z, pl) ∧ RepX f0 P F M nv g true (V k) (c k + 1) (c (k + 1)) u h
  | g + 1, true, v, a, b, u, h => ∃ (p : Nat) (pl : Int32), v = .ref p ∧ p < f0.2.2.2 ∧ vl f0 p 161 = .int pl ∧ 1 ≤ h ∧ (
      (oc f0 p 26 ∧ ∃ (t i x y : Nat) (z : Int32), vl f0 p 190 = .int (nI i) ∧ RepN f0 P F M nv g (vl f0 p 191) a t h ∧ b = t + 1 ∧ 1 ≤ i ∧ i ≤ 4 ∧ P.1 t = (18 + i, x, y, z, pl))
    ∨ (oc f0 p 14 ∧ ∃ (t e x : Nat) (z : Int32), RepN f0 P F M nv g (vl f0 p 162) a t h ∧ P.1 t = (14, e, x, z, pl) ∧
        ((vl f0 p 164 = .null ∧ RepX f0 P F M nv g false (vl f0 p 163) (t + 1) e u h ∧ b = e)
        ∨ (∃ (j x1 : Nat) (z1 z2 : Int32) (q : Nat), vl f0 p 164 = .ref q ∧ RepX f0 P F M nv g false (vl f0 p 163) (t + 1) j u h ∧ P.1 j = (15, b, x1, z1, z2) ∧ e = j + 1 ∧ RepX f0 P F M nv g false (vl f0 p 164) e b u h)))
    ∨ (oc f0 p 24 ∧ ∃ (t j x y x1 x2 : Nat) (z z1 z2 z3 : Int32), P.1 a = (16, x, y, z, pl) ∧ RepN f0 P F M nv g (vl f0 p 185) (a + 1) t h ∧ P.1 t = (14, b, x1, z1, pl) ∧ RepX f0 P F M nv g false (vl f0 p 186) (t + 1) j u h ∧ P.1 j = (15, a, x2, z2, z3) ∧ b = j + 1)
    ∨ (oc f0 p 25 ∧ ∃ (t j n x y x2 u' h' : Nat) (z z1 z2 z3 : Int32), vl f0 p 187 = .int (nI n) ∧ n < 8 + nv ∧ RepN f0 P F M nv g (vl f0 p 188) a t h ∧ P.1 t = (17, x, y, z, pl) ∧ P.1 (t + 1) = (18, b, n, z1, pl) ∧ u' + 1 ≤ u ∧ h' + 2 ≤ h ∧ RepX f0 P F M nv g false (vl f0 p 189) (t + 2) j u' h' ∧ P.1 j = (15, t + 1, x2, z2, z3) ∧ b = j + 1)
    ∨ (oc f0 p 27 ∧ ∃ (j e n x u' : Nat) (z z1 z2 on : Int32), vl f0 p 192 = .int (nI n) ∧ n < 8 + nv ∧ vl f0 p 193 = .int on ∧ P.1 a = (23, e, n, z, on) ∧ u' + 1 ≤ u ∧ RepX f0 P F M nv g false (vl f0 p 194) (a + 1) j u' h ∧ P.1 j = (24, b, x, z1, z2) ∧ e = j + 1 ∧ RepX f0 P F M nv g false (vl f0 p 195) e b u h)
    ∨ (oc f0 p 28 ∧ ∃ n : Nat, vl f0 p 196 = .int (nI n) ∧ n < 8 + nv ∧
        ((vl f0 p 200 = .null ∧ vl f0 p 201 = .null ∧ ∃ (t x : Nat) (z z1 : Int32), RepN f0 P F M nv g (vl f0 p 202) a t h ∧ P.1 t = (12, n, x, z, z1) ∧ b = t + 1)
        ∨ (vl f0 p 201 = .null ∧ ∃ (t1 t h1 : Nat) (np fp : Int32), vl f0 p 197 = .int np ∧ vl f0 p 198 = .int fp ∧ RepN f0 P F M nv g (vl f0 p 200) a t1 h ∧ h1 + 1 ≤ h ∧ RepN f0 P F M nv g (vl f0 p 202) t1 t h1 ∧ P.1 t = (13, n, 0, np, fp) ∧ b = t + 1)
        ∨ (∃ (t1 t2 t h1 h2 sp q : Nat) (np fp : Int32), vl f0 p 201 = .ref q ∧ vl f0 p 197 = .int np ∧ vl f0 p 198 = .int fp ∧ vl f0 p 199 = .int (nI sp) ∧ sp ≤ 2000 ∧ RepN f0 P F M nv g (vl f0 p 200) a t1 h ∧ h1 + 1 ≤ h ∧ RepN f0 P F M nv g (vl f0 p 201) t1 t2 h1 ∧ h2 + 2 ≤ h ∧ RepN f0 P F M nv g (vl f0 p 202) t2 t h2 ∧ P.1 t = (13, n, sp + 1, np, fp) ∧ b = t + 1))))
/-- the same calls, but for the latest one's variables -/
def aSame (fr fr' : List Fm) : Prop := fr'.map (fun q => q.2) = fr.map (fun q => q.2) ∧ fr'.tail = fr.tail
theorem aSame.rf (fr : List Fm) : aSame fr fr := ⟨rfl, rfl⟩
theorem aSame.trans {a b c : List Fm} (h : aSame a b) (k : aSame b c) : aSame a c := ⟨k.1.trans h.1, k.2.trans h.2⟩
theorem aSame.len {a b : List Fm} (h : aSame a b) : b.length = a.length := by
  have := congrArg List.length h.1
  rw [List.length_map, List.length_map] at this
  exact this
theorem aSame.put (fr : List Fm) (n : Nat) (v : Th) : aSame fr (aputF fr n v) := by
  unfold aputF
  split
  · exact aSame.rf fr
  · match fr with
    | [] => exact aSame.rf []
    | q :: r => exact ⟨rfl, rfl⟩
/-- what a deed or a block leaves -/
def oD (E : EN) (f0 : RH) (s0 : CS) (fuel : Nat) (Bb : Nat × Nat) (P : Pg) (a b : Nat) (C pl : List Th) (fr : List Fm) (N : List Nat) (wy : List Wy) (sh : Nat → Option Th) (ct : Ct) (out : List Int32) (o : KO) (s' : CS) (f' : RH) : Prop :=
  (o = .inl (some (.int 0)) ∧ ∃ (fr' : List Fm) (sh' : Nat → Option Th) (ct' : Ct) (out' : List Int32), aSame fr fr' ∧ ct.1 ≤ ct'.1 ∧ aRch P fuel (a, pl, fr, wy, sh, ct, out, (0, -1, 0)) (b, pl, fr', wy, sh', ct', out', (0, -1, 0)) ∧ cR E f0 s0 fuel Bb C fr' N sh' ct' out' s' f')
  ∨ (o = .inl (some (.int 1)) ∧ ∃ (t : Nat) (v : Th) (fr' : List Fm) (ex : List Wy) (sh' : Nat → Option Th) (ct' : Ct) (out' : List Int32), aSame fr fr' ∧ ct.1 ≤ ct'.1 ∧ (P.1 t).1 = 20 ∧ ex.length + wy.length ≤ 389 ∧ aRch P fuel (a, pl, fr, wy, sh, ct, out, (0, -1, 0)) (t, v :: pl, fr', ex ++ wy, sh', ct', out', (0, -1, 0)) ∧ cR E f0 s0 fuel Bb (C ++ [v]) fr' N sh' ct' out' s' f')
  ∨ (o = .inr 9 ∧ oT E f0 s0 fuel Bb P (a, pl, fr, wy, sh, ct, out, (0, -1, 0)) C pl fr N wy s' f')
section CDf
variable {E : EN} {s s' s0 : CS} {f f' f0 : RH} {fuel : Nat} {Bb : Nat × Nat} {P : Pg} {C pl A : List Th} {fr fr' : List Fm} {N : List Nat} {wy : List Wy} {sh sh' : Nat → Option Th} {ct ct' : Ct} {out out' : List Int32} {a a' b : Nat} {o : KO}
/-- a trouble with other variables of the latest call -/
theorem oT.same {σ σ' : AS} (hr : aRch P fuel σ σ') (hs : aSame fr fr') (h : oT E f0 s0 fuel Bb P σ' C pl fr' N wy s' f') : oT E f0 s0 fuel Bb P σ C pl fr N wy s' f' := by
  obtain ⟨σ1, pc, pl', fr1, frB, wy', sh1, ct1, out1, tr, h1, h2, h3, h4, h4b, h5⟩ := h
  exact ⟨σ1, pc, pl', fr1, frB, wy', sh1, ct1, out1, tr, hr.trans h1, h2, h3, h4.trans hs.1, h4b.trans hs.2, h5⟩
/-- one piece of work behind another -/
theorem oD.after (hr : aRch P fuel (a, pl, fr, wy, sh, ct, out, (0, -1, 0)) (a', pl, fr', wy, sh', ct', out', (0, -1, 0))) (hs : aSame fr fr') (hc : ct.1 ≤ ct'.1) (h : oD E f0 s0 fuel Bb P a' b C pl fr' N wy sh' ct' out' o s' f') : oD E f0 s0 fuel Bb P a b C pl fr N wy sh ct out o s' f' := by
  rcases h with ⟨rfl, fr2, sh2, ct2, out2, k1, k2, k3, k4⟩ | ⟨rfl, t, v, fr2, ex, sh2, ct2, out2, k1, k2, k3, k3b, k4, k5⟩ | ⟨rfl, h⟩
  · exact Or.inl ⟨rfl, fr2, sh2, ct2, out2, hs.trans k1, Nat.le_trans hc k2, hr.trans k3, k4⟩
  · exact Or.inr (Or.inl ⟨rfl, t, v, fr2, ex, sh2, ct2, out2, hs.trans k1, Nat.le_trans hc k2, k3, k3b, hr.trans k4, k5⟩)
  · exact Or.inr (Or.inr ⟨rfl, oT.same hr hs h⟩)
end CDf
