/-! THE COMPONENT: small rows -/
section CA0
variable {l : Launch} {E : EN} {w : CO} {d : Nat} {M : MR} {pc : Nat} {lo : LO} {st vs : List Value} {s : CS} {f : RH} {Q : KO → CS → RH → Prop}
/-- what holds of all else -/
theorem EvC.cw (k : ez E ≤ f.2.2.2 ∧ f.2.2.2 ≤ f.1 → EvC l E w d M vs s f Q) : EvC l E w d M vs s f Q := fun h hW => k ⟨hW.cb0, hW.cb1⟩ h hW
theorem ExC.cw (k : ez E ≤ f.2.2.2 ∧ f.2.2.2 ≤ f.1 → ExC l E w d M pc lo st s f Q) : ExC l E w d M pc lo st s f Q := fun f0 h hW => k ⟨hW.cb0, hW.cb1⟩ f0 h hW
/-- what has come may be taken as frozen -/
theorem PoC.pfrz {f0 : RH} {o : Outcome} {h : CH} (k : PoC E w f0 (fun o s' f' => Q o s' (frz f')) o h) : PoC E w f0 Q o h := by
  obtain ⟨s', f', h1, h2, h3⟩ := k
  exact ⟨s', frz f', h1.freeze, h2.trans (Frz.freeze h1.cb1), h3⟩
theorem EvC.pfrz (k : EvC l E w d M vs s f (fun o s' f' => Q o s' (frz f'))) : EvC l E w d M vs s f Q := fun h hW => (k h hW).mono fun _ _ q => q.pfrz
theorem ExC.pfrz (k : ExC l E w d M pc lo st s f (fun o s' f' => Q o s' (frz f'))) : ExC l E w d M pc lo st s f Q := fun f0 h hW hF => (k f0 h hW hF).mono fun _ _ q => q.pfrz
/-- what holds of all else behind it -/
theorem EvC.pcw (k : EvC l E w d M vs s f (fun o s' f' => (∀ a t, tg f' a = some t → a < f'.1) → Q o s' f')) : EvC l E w d M vs s f Q := fun h hW => (k h hW).mono fun _ _ q => by
  obtain ⟨s', f', a, b, c⟩ := q
  have hlt : ∀ a t, tg f' a = some t → a < f'.1 := fun x t ht => by
    obtain ⟨cc, h1, _⟩ := a.cell ht
    have := a.lt x _ h1
    rw [a.sz] at this
    exact this
  refine ⟨s', f', a, b, ?_⟩
  rcases c with ⟨r, c1, c2⟩ | ⟨k, a, c1, c2, c3⟩
  · exact Or.inl ⟨r, c1, c2 hlt⟩
  · exact Or.inr ⟨k, a, c1, c2, c3 hlt⟩
theorem ExC.frozen (k : ExC l E w d M pc lo st s (frz f) Q) : ExC l E w d M pc lo st s f Q := fun f0 h hW hF => k f0 h hW.freeze (hF.trans (Frz.freeze hW.cb1))
end CA0
theorem cellv {f : RH} {p n : Nat} {t : Nat ⊕ Nat} {g : Nat → Value} (h : f.2.2.1 p = some (t, n, g)) : tg f p = some t ∧ ln f p = n ∧ ∀ j, vl f p j = g j := by
  refine ⟨?_, ?_, fun j => ?_⟩
  · unfold tg; rw [h]; rfl
  · unfold ln; rw [h]
  · unfold vl; rw [h]
theorem cellv' {f : RH} {p : Nat} {t : Nat ⊕ Nat} (h : tg f p = some t) : f.2.2.1 p = some (t, ln f p, vl f p) := tg_some h
/-- an array of INTS -/
theorem rcI.vw {f : RH} {z b : Nat} {v : Value} {a : List Int32} (h : rcI f.2.2.1 z b v a) : ∃ p : Nat, v = .ref p ∧ (z ≤ p ∧ p < b) ∧ tg f p = some (.inr 0) ∧ ln f p = a.length ∧ ∀ i, i < a.length → vl f p i = .int (a.getD i 0) := by
  obtain ⟨p, g, h1, h2, h3, h4⟩ := h
  obtain ⟨c1, c2, c3⟩ := cellv h3
  exact ⟨p, h1, h2, c1, c2, fun i hi => by rw [c3]; exact h4 i hi⟩
theorem rcI.of {f : RH} {z b p : Nat} {a : List Int32} (h2 : z ≤ p ∧ p < b) (h3 : tg f p = some (.inr 0)) (h4 : ln f p = a.length) (h5 : ∀ i, i < a.length → vl f p i = .int (a.getD i 0)) : rcI f.2.2.1 z b (.ref p) a := ⟨p, vl f p, rfl, h2, by rw [cellv' h3, h4], h5⟩
theorem rcT.whole {f : RH} {z b : Nat} {v : Value} {x : Int32} (h : rcT f.2.2.1 z b true (zI x) (fun _ => v)) : ∃ p : Nat, v = .ref p ∧ p < b ∧ oc f p 32 ∧ vl f p 209 = .int x := by
  obtain ⟨p, k, h1, h2, h3, h4⟩ := h
  obtain ⟨c1, c2, c3⟩ := cellv h3
  exact ⟨p, h1, h2, ⟨c1, c2⟩, by rw [c3]; exact h4⟩
theorem rcT.row {f : RH} {z b : Nat} {v : Value} {a : List Int32} (h : rcT f.2.2.1 z b true (zR a) (fun _ => v)) : ∃ p q : Nat, v = .ref p ∧ p < b ∧ oc f p 29 ∧ vl f p 203 = .ref q ∧ (z ≤ q ∧ q < b) ∧ tg f q = some (.inr 0) ∧ ln f q = a.length ∧ (∀ i, i < a.length → vl f q i = .int (a.getD i 0)) ∧ rcI f.2.2.1 z b (.ref q) a := by
  obtain ⟨p, k, h1, h2, h3, h4⟩ := h
  obtain ⟨c1, c2, c3⟩ := cellv h3
  obtain ⟨q, e1, e2, e3, e4, e5⟩ := h4.vw
  exact ⟨p, q, h1, h2, ⟨c1, c2⟩, by rw [c3]; exact e1, e2, e3, e4, e5, by rw [← e1]; exact h4⟩
theorem rcT.tab {f : RH} {z b : Nat} {v : Value} {a : List (List Int32)} (h : rcT f.2.2.1 z b true (zT a) (fun _ => v)) : ∃ p q : Nat, v = .ref p ∧ p < b ∧ oc f p 30 ∧ vl f p 204 = .ref q ∧ q < b ∧ tg f q = some (.inr 11) ∧ ln f q = a.length ∧ ∀ i, i < a.length → rcI f.2.2.1 z b (vl f q i) (a.getD i []) := by
  obtain ⟨p, k, q, m, h1, h2, h3, h4, h5, h6, h7⟩ := h
  obtain ⟨c1, c2, c3⟩ := cellv h3
  obtain ⟨e1, e2, e3⟩ := cellv h6
  exact ⟨p, q, h1, h2.2, ⟨c1, c2⟩, by rw [c3]; exact h4, h5, e1, e2, fun i hi => by rw [e3]; exact h7 i hi⟩
theorem rcT.tabz {c : Nat → CC} {z b p : Nat} {a : List (List Int32)} (h : rcT c z b true (zT a) (fun _ => .ref p)) : z ≤ p := by
  obtain ⟨p', k, q, m, h1, h2, _⟩ := h
  cases h1
  exact h2.1
theorem rcT.pack {f : RH} {z b : Nat} {v : Value} {l : List Th} (h : rcT f.2.2.1 z b true (zP l) (fun _ => v)) : ∃ p q : Nat, v = .ref p ∧ p < b ∧ oc f p 31 ∧ vl f p 206 = .ref q ∧ q < b ∧ tg f q = some (.inr 4) ∧ ln f q = l.length ∧ vl f p 207 = .int (nI (zd (zP l))) ∧ vl f p 208 = .int (nI (zb (zP l))) ∧ ∀ i, i < l.length → rcT f.2.2.1 z b true (l.getD i (zI 0)) (fun _ => vl f q i) := by
  obtain ⟨p, k, q, m, h1, h2, h3, h4, h5, h6, h7, h8, h9⟩ := rcT_pack.mp h
  obtain ⟨c1, c2, c3⟩ := cellv h3
  obtain ⟨e1, e2, e3⟩ := cellv h6
  exact ⟨p, q, h1, h2, ⟨c1, c2⟩, by rw [c3]; exact h4, h5, e1, e2, by rw [c3]; exact h7, by rw [c3]; exact h8, fun i hi => by rw [e3]; exact h9 i hi⟩
/-- the class of a thing's object -/
theorem rcT.ocl {f : RH} {z b : Nat} {v : Value} {t : Th} (h : rcT f.2.2.1 z b true t (fun _ => v)) : ∃ p : Nat, v = .ref p ∧ p < b ∧ oc f p (if zk t = 0 then 32 else 28 + zk t) := by
  obtain ⟨p, k, h1, h2, h3⟩ := RT_cls h
  obtain ⟨c1, c2, c3⟩ := cellv h3
  exact ⟨p, h1, h2, c1, c2⟩
theorem rcT.isT {f : RH} {z b : Nat} {v : Value} {t : Th} (h : rcT f.2.2.1 z b true t (fun _ => v)) : isT f v := by
  obtain ⟨p, h1, h2, h3, h4⟩ := h.ocl
  refine Or.inr ⟨p, h1, ?_⟩
  rw [h3]
  rcases zk_c t with e | e | e | e <;> rw [e] <;> simp
/-! new things -/
theorem tg_push (f : RH) (x : (Nat ⊕ Nat) × Nat × (Nat → Value)) (n : Nat) : tg (fpush f x n) f.1 = some x.1 := by
  show ((if f.1 = f.1 then some x else _).map _) = _
  rw [if_pos rfl]; rfl
theorem cell_push (f : RH) (x : (Nat ⊕ Nat) × Nat × (Nat → Value)) (n : Nat) : (fpush f x n).2.2.1 f.1 = some x := if_pos rfl
theorem cell_push' (f : RH) (x : (Nat ⊕ Nat) × Nat × (Nat → Value)) (n : Nat) {a : Nat} (h : a ≠ f.1) : (fpush f x n).2.2.1 a = f.2.2.1 a := if_neg h
theorem fset_push (f : RH) (t : Nat ⊕ Nat) (m : Nat) (g : Nat → Value) (n j : Nat) (v : Value) : fset (fpush f (t, m, g) n) f.1 j v = fpush f (t, m, vup g j v) n := by
  have : (fset (fpush f (t, m, g) n) f.1 j v).2.2.1 = (fpush f (t, m, vup g j v) n).2.2.1 := by
    funext b
    show (if b = f.1 then ((fpush f (t, m, g) n).2.2.1 f.1).map _ else (fpush f (t, m, g) n).2.2.1 b) = _
    rw [cell_push]
    by_cases e : b = f.1
    · rw [if_pos e, e, cell_push]; rfl
    · rw [if_neg e, cell_push' _ _ _ e, cell_push' _ _ _ e]
  exact Prod.ext rfl (Prod.ext rfl (Prod.ext this rfl))
theorem oc_new (f : RH) (k : Nat) : oc (fnew f k) f.1 k := by
  obtain ⟨a, b, c⟩ := cellv (cell_push f (.inl k, 0, fun j => defaultValue (FY j)) (CZ k))
  exact ⟨a, b⟩
section CB
variable {l : Launch} {E : EN} {w : CO} {d : Nat} {s : CS} {f : RH} {Q : KO → CS → RH → Prop}
theorem C_wrong (hst : l.stackTraces = false) {k p : Int32} (hQ : Q (.inr 9) (uI (uI (uI s 54 k) 55 p) 56 0) f) {Q' : KO → CS → RH → Prop} (hq : ∀ o s1 f2, Q' o s1 f2 = KP o (fun r => r = some (.ref (w.1 9)) ∧ Q (.inr 9) s1 f2) (fun k => Q (.inr k) s1 f2)) : EvC l E w d MX3_wrong [.ref (w.1 3), .int k, .int p] s f Q' := by
  refine eX3_wrong hst ?_
  rw [hq]
  exact ⟨rfl, hQ⟩
end CB
