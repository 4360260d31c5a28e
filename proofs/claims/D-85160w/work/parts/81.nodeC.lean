/-! THE COMPONENT'S TREES: what nodes stand for; what a piece of work leaves -/
/-- a Nodes object: so many parts -/
def nNs (f0 : RH) (q m : Nat) (V : Nat → Value) : Prop := q < f0.2.2.2 ∧ oc f0 q 17 ∧ vl f0 q 171 = .int (nI m) ∧ m ≤ 1000 ∧ ∃ r, vl f0 q 168 = .ref r ∧ r < f0.2.2.2 ∧ tg f0 r = some (.inr 5) ∧ m ≤ ln f0 r ∧ ∀ k, k < m → vl f0 r k = V k
/-- its signs (169) or places (170) -/
def nPs (f0 : RH) (q m j : Nat) (S : Nat → Int32) : Prop := ∃ r, vl f0 q j = .ref r ∧ r < f0.2.2.2 ∧ tg f0 r = some (.inr 0) ∧ m ≤ ln f0 r ∧ ∀ k, k < m → vl f0 r k = .int (S k)
/-- a node stands for the orders from a up to b; h: so many values on the pile it may want; F: the places of the functions; nv: variables -/
def RepN (f0 : RH) (P : Pg) (F : Nat → Nat) (M nv : Nat) : Nat → Value → Nat → Nat → Nat → Prop
  | 0, _, _, _, _ => False
  | g + 1, v, a, b, h => ∃ (p : Nat) (pl : Int32), v = .ref p ∧ p < f0.2.2.2 ∧ vl f0 p 165 = .int pl ∧ 1 ≤ h ∧ (
      (oc f0 p 15 ∧ ∃ (c q : Int32) (x y : Nat), vl f0 p 166 = .int c ∧ P.1 a = (2, x, y, c, q) ∧ b = a + 1)
    ∨ (oc f0 p 20 ∧ ∃ (n x : Nat) (y : Int32), vl f0 p 180 = .int (nI n) ∧ n < 8 + nv ∧ P.1 a = (3, n, x, y, pl) ∧ b = a + 1)
    ∨ (oc f0 p 22 ∧ ∃ (t s x : Nat) (y : Int32) (z : Bool), vl f0 p 183 = .int (bI z) ∧ RepN f0 P F M nv g (vl f0 p 182) a t h ∧ ((s == 33) = z ∧ (s = 33 ∨ s = 45)) ∧ P.1 t = (4, s, x, y, pl) ∧ b = t + 1)
    ∨ (oc f0 p 23 ∧ ∃ (q m : Nat) (V : Nat → Value) (S : Nat → Nat) (L : Nat → Int32) (c : Nat → Nat), vl f0 p 184 = .ref q ∧ nNs f0 q m V ∧ nPs f0 q m 169 (fun k => nI (S k)) ∧ nPs f0 q m 170 L ∧ 1 ≤ m ∧ RepN f0 P F M nv g (V 0) a (c 1) h ∧ (∀ k, 1 ≤ k → k < m → ∃ (t x h' : Nat) (y : Int32), h' + 1 ≤ h ∧ RepN f0 P F M nv g (V k) (c k) t h' ∧ nI (S k) ∈ zSg ∧ P.1 t = (5, S k, x, y, L k) ∧ c (k + 1) = t + 1) ∧ b = c m)
    ∨ (oc f0 p 21 ∧ ∃ (q m : Nat) (V : Nat → Value) (L : Nat → Int32) (c : Nat → Nat), vl f0 p 181 = .ref q ∧ nNs f0 q m V ∧ nPs f0 q m 170 L ∧ 1 ≤ m ∧ RepN f0 P F M nv g (V 0) a (c 1) h ∧ (∀ k, 1 ≤ k → k < m → ∃ (t x z h' : Nat) (y : Int32), h' + 1 ≤ h ∧ RepN f0 P F M nv g (V k) (c k) t h' ∧ P.1 t = (7, z, x, y, L k) ∧ c (k + 1) = t + 1) ∧ b = c m)
    ∨ (oc f0 p 16 ∧ ∃ (q m x : Nat) (y : Int32) (V : Nat → Value) (c : Nat → Nat), vl f0 p 167 = .ref q ∧ nNs f0 q m V ∧ m ≤ h ∧ c 0 = a ∧ (∀ k, k < m → ∃ h', h' + k ≤ h ∧ RepN f0 P F M nv g (V k) (c k) (c (k + 1)) h') ∧ P.1 (c m) = (6, m, x, y, pl) ∧ b = c m + 1)
    ∨ (oc f0 p 18 ∧ ∃ (q m s : Nat) (y : Int32) (V : Nat → Value) (c : Nat → Nat), vl f0 p 173 = .ref q ∧ vl f0 p 172 = .int (nI s) ∧ nNs f0 q m V ∧ bsu s m ∧ m ≤ h ∧ c 0 = a ∧ (∀ k, k < m → ∃ h', h' + k ≤ h ∧ RepN f0 P F M nv g (V k) (c k) (c (k + 1)) h') ∧ P.1 (c m) = (8, s, m, y, pl) ∧ b = c m + 1)
    ∨ (oc f0 p 19 ∧ ∃ (q m j s : Nat) (y : Int32) (V : Nat → Value) (c : Nat → Nat), vl f0 p 179 = .ref q ∧ vl f0 p 174 = .int (nI s) ∧ vl f0 p 178 = .ref (F j) ∧ j < M ∧ nNs f0 q m V ∧ (P.2 j).1 = m ∧ m + 70 ≤ h ∧ c 0 = a ∧ (∀ k, k < m → ∃ h', h' + k ≤ h ∧ RepN f0 P F M nv g (V k) (c k) (c (k + 1)) h') ∧
        ((s = 0 ∧ P.1 (c m) = (9, j, m, y, pl) ∧ b = c m + 1) ∨ (∃ (x1 x2 : Nat) (y2 : Int32), ((s = 28 ∧ m = 1) ∨ (s = 29 ∧ m = 2)) ∧ P.1 (c m) = (10, s, x1, y, pl) ∧ P.1 (c m + 1) = (11, x2, j, y2, pl) ∧ b = c m + 2))))
/-- a trouble has come on the way from a state -/
def oT (E : EN) (f0 : RH) (s0 : CS) (fuel : Nat) (Bb : Nat × Nat) (P : Pg) (σ : AS) (C pl : List Th) (fr : List Fm) (N : List Nat) (wy : List Wy) (s' : CS) (f' : RH) : Prop :=
  ∃ (σ1 : AS) (pc : Nat) (pl' : List Th) (fr' frB : List Fm) (wy' : List Wy) (sh' : Nat → Option Th) (ct' : Ct) (out' : List Int32) (tr : Nat × Int32 × Int32), aRch P fuel σ σ1 ∧ aGood P fuel σ1 ∧ cT E f0 s0 fuel Bb C frB N sh' ct' out' tr s' f' ∧ frB.map (fun q => q.2) = fr.map (fun q => q.2) ∧ frB.tail = fr.tail ∧
    ((1 ≤ tr.1 ∧ tr.1 ≤ 9 ∧ doA P fuel σ1 = (pc, pl', fr', wy', sh', ct', out', tr) ∧ (∃ ex, pl' = ex ++ pl) ∧ (∃ ex, fr' = ex ++ frB) ∧ ∃ ex, wy' = ex ++ wy ∧ ∀ q ∈ ex, ¬ q.1 = 2) ∨ (10 ≤ tr.1 ∧ tr.1 ≤ 11 ∧ ∃ sh2 : Nat → Option Th, stA P fuel σ1 = (pc, pl', fr', wy', sh2, ct', out', tr)))
/-- what the work of a node leaves -/
def oN (E : EN) (f0 : RH) (s0 : CS) (fuel : Nat) (Bb : Nat × Nat) (P : Pg) (a b : Nat) (C pl : List Th) (fr : List Fm) (N : List Nat) (wy : List Wy) (sh : Nat → Option Th) (ct : Ct) (out : List Int32) (o : KO) (s' : CS) (f' : RH) : Prop :=
  (o = .inl none ∧ ∃ (v : Th) (sh' : Nat → Option Th) (ct' : Ct) (out' : List Int32), ct.1 ≤ ct'.1 ∧ aRch P fuel (a, pl, fr, wy, sh, ct, out, (0, -1, 0)) (b, v :: pl, fr, wy, sh', ct', out', (0, -1, 0)) ∧ cR E f0 s0 fuel Bb (C ++ [v]) fr N sh' ct' out' s' f')
  ∨ (o = .inr 9 ∧ oT E f0 s0 fuel Bb P (a, pl, fr, wy, sh, ct, out, (0, -1, 0)) C pl fr N wy s' f')
/-- what a piece of work wants of the piles; L: so many calls may still come -/
def aPre (C pl : List Th) (fr : List Fm) (wy : List Wy) (h u L : Nat) : Prop := (∀ t ∈ pl, ZW t) ∧ pl.length + h + 700 * L ≤ 8000 ∧ C.length + h + 720 * L ≤ 8300 ∧ wy.length + u + 38 * L ≤ 389 ∧ ∀ q ∈ wy, q.1 = 2 → q.2.2.2.2.2.1 ≤ pl.length ∧ 1 ≤ q.2.2.2.2.2.2.1 ∧ q.2.2.2.2.2.2.1 ≤ fr.length ∧ q.2.2.2.1 < 22
theorem aPre.le {C pl : List Th} {fr : List Fm} {wy : List Wy} {h h' u L : Nat} (k : aPre C pl fr wy h u L) (hh : h' ≤ h) : aPre C pl fr wy h' u L := ⟨k.1, by have := k.2.1; omega, by have := k.2.2.1; omega, k.2.2.2⟩
theorem aPre.add {C pl A : List Th} {fr : List Fm} {wy : List Wy} {h h' u L : Nat} (k : aPre C pl fr wy h u L) (hA : ∀ t ∈ A, ZW t) (hh : h' + A.length ≤ h) : aPre (C ++ A) (A.reverse ++ pl) fr wy h' u L := by
  obtain ⟨k1, k2, k3, k4, k5⟩ := k
  refine ⟨fun t ht => ?_, ?_, ?_, k4, fun q hq h2 => ?_⟩
  · rcases List.mem_append.mp ht with z | z
    · exact hA t (List.mem_reverse.mp z)
    · exact k1 t z
  · rw [List.length_append, List.length_reverse]; omega
  · rw [List.length_append]; omega
  · obtain ⟨a, b, c, e⟩ := k5 q hq h2
    exact ⟨by rw [List.length_append]; omega, b, c, e⟩
/-- in a trouble the tries have what they go back to -/
theorem aPre.tk {C pl : List Th} {fr : List Fm} {wy : List Wy} {h u L : Nat} {σ : AS} (k : aPre C pl fr wy h u L) (h1 : ¬ (aT σ).1 = 0 → pl.length ≤ σ.2.1.length ∧ fr.length ≤ σ.2.2.1.length ∧ ∀ q ∈ σ.2.2.2.1, q.1 = 2 → q ∈ wy) : aTk σ := by
  intro ht q hq h2
  obtain ⟨a1, a2, a3⟩ := h1 ht
  obtain ⟨b1, b2, b3, b4⟩ := k.2.2.2.2 q (a3 q hq h2) h2
  exact ⟨by omega, b2, by omega, b4⟩
theorem aPre.good {P : Pg} {fuel pc : Nat} {C pl A : List Th} {fr : List Fm} {wy : List Wy} {sh : Nat → Option Th} {ct : Ct} {out : List Int32} {h u L : Nat} (k : aPre C pl fr wy h u L) (hA : ∀ t ∈ A, ZW t) (hl : A.length ≤ h + 100) (hf : 1 ≤ fr.length ∧ fr.length ≤ 10) (hm : ct.2.1 ≤ 3000) (hfit : aFit P (pc, A ++ pl, fr, wy, sh, ct, out, (0, -1, 0))) (htk : aTk (doA P fuel (pc, A ++ pl, fr, wy, sh, ct, out, (0, -1, 0)))) : aGood P fuel (pc, A ++ pl, fr, wy, sh, ct, out, (0, -1, 0)) := by
  refine ⟨?_, hf.2, hf.1, ?_, fun t ht => ?_, hm, rfl, hfit, htk⟩
  · show (A ++ pl).length ≤ 8300
    rw [List.length_append]
    have := k.2.1
    omega
  · have := k.2.2.2.1
    show wy.length ≤ 390
    omega
  · rcases List.mem_append.mp ht with z | z
    · exact hA t z
    · exact k.1 t z
section CNd
variable {l : Launch} {E : EN} {w : CO} {d : Nat} {s s' s0 : CS} {f f' f0 : RH} {Q : KO → CS → RH → Prop} {fuel : Nat} {Bb : Nat × Nat} {P : Pg} {C pl A : List Th} {fr : List Fm} {N : List Nat} {wy : List Wy} {sh : Nat → Option Th} {ct : Ct} {out : List Int32}
theorem cB.cut (h : cB E f0 s0 fuel Bb (C ++ A) fr N sh ct out s f) : cB E f0 s0 fuel Bb C fr N sh ct out s f := ⟨h.1.cut, h.2⟩
/-- a trouble farther on is a trouble from here on -/
theorem oT.up {σ σ' : AS} (hr : aRch P fuel σ σ') (h : oT E f0 s0 fuel Bb P σ' (C ++ A) (A.reverse ++ pl) fr N wy s' f') : oT E f0 s0 fuel Bb P σ C pl fr N wy s' f' := by
  obtain ⟨σ1, pc, pl', fr', frB, wy', sh', ct', out', tr, h1, h2, h3, h4, h4b, h5⟩ := h
  refine ⟨σ1, pc, pl', fr', frB, wy', sh', ct', out', tr, hr.trans h1, h2, ⟨h3.1.cut, h3.2⟩, h4, h4b, ?_⟩
  rcases h5 with ⟨a1, a2, a3, ⟨ex, a4⟩, a5⟩ | h5
  · exact Or.inl ⟨a1, a2, a3, ⟨ex ++ A.reverse, by rw [a4, List.append_assoc]⟩, a5⟩
  · exact Or.inr h5
/-- a step is paid -/
theorem C_step (hst : l.stackTraces = false) {place : Int32} (h : cR E f0 s0 fuel Bb C fr N sh ct out s f) (h0 : ct.1 = fuel → cT E f0 s0 fuel Bb C fr N sh ct out (10, place, 0) (cwrong s 10 place) f → Q (.inr 9) (cwrong s 10 place) f) (h1 : ct.1 < fuel → ∀ s1, cR E f0 s0 fuel Bb C fr N sh (ct.1 + 1, ct.2) out s1 f → Q (.inl none) s1 f) : EvC l E w (d + 1) MX3_step [.ref (w.1 3), .int place] s f Q := by
  obtain ⟨hB, g1, g2, g3, g4, g5⟩ := h
  obtain ⟨b1, b2, b3, ⟨a1, a2, a3, a4, a5⟩, ⟨c1, c2, c3, c4⟩, ⟨o1, o2⟩, ⟨k1, k2, k3, k4⟩, e1, e2, e3, e4, e5⟩ := id hB
  have hiff : s.1 38 = s.1 39 ↔ ct.1 = fuel := by rw [a2, a3, nI_eq (by omega) (by omega)]
  refine eX3_step hst ⟨fun c => ?_, fun c => C_wrong hst (Q := Q) (h0 (hiff.mp c) ?_) (fun _ _ _ => rfl)⟩
  · have hlt : ct.1 < fuel := by have := mt hiff.mpr c; omega
    refine h1 hlt _ ⟨⟨b1, cFr.mv (s := s) (s' := uI s 38 (s.1 38 + 1)) (Frz.rf f) rfl rfl rfl b2, b3, ⟨a1, ?_, a3, a4, a5⟩, ⟨by show ct.1 + 1 ≤ fuel; omega, c2, c3, by show out.length + Bb.2 ≤ 9000 * (ct.1 + 1); omega⟩, ⟨o1, o2⟩, ⟨fun j hj => ?_, k2, k3, k4⟩, e1, e2, e3, e4, e5⟩, g1, g2, g3, g4, g5⟩
    · have e : (uI s 38 (s.1 38 + 1)).1 38 = s.1 38 + 1 := rfl
      rw [e, a2, nI_1]
    · have e : (uI s 38 (s.1 38 + 1)).1 j = s.1 j := if_neg (fun z => hj (by rw [z]; decide))
      rw [e]
      exact k1 j hj
  · refine ⟨?_, ⟨rfl, rfl, rfl⟩, by omega, by omega, fun _ => g3⟩
    have hc := hB
    have e : C = C ++ [] := (List.append_nil C).symm
    rw [e] at hc
    exact hc.ord (Frz.rf f) ⟨e1, e2⟩ (cwrong_fr JC C.length s 10 place) a4 (Nat.le_refl _)
end CNd
