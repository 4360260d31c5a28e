/-! THE COMPONENT RUNS: what its state stands for -/
/-- a name's cell: nothing there, or a thing -/
def cVar (E : EN) (f : RH) (there num : Int32) (thing : Value) : Option Th → Prop
  | none => there = 0
  | some t => there = 1 ∧ rcV E f num thing t ∧ ZW t
/-- what lies in a cell is a thing, or nothing -/
def okc (f : RH) (v : Value) : Prop := isR v = true ∧ isT f v ∧ ∀ p, v = .ref p → p < f.2.2.2
/-- a shelf's cell -/
def cSv (E : EN) (f : RH) (there num : Int32) (thing : Value) : Option Th → Prop
  | none => there = 0 ∧ okc f thing
  | some t => there = 1 ∧ rcV E f num thing t ∧ ZW t
theorem cSv.v {E : EN} {f : RH} {a b : Int32} {v : Value} {t : Option Th} (h : cSv E f a b v t) : cVar E f a b v t := by
  match t, h with
  | none, h => exact h.1
  | some t, h => exact h
theorem okc.fz {f f' : RH} {v : Value} (h : okc f v) (hF : Frz f f') : okc f' v := by
  obtain ⟨h1, h2, h3⟩ := h
  refine ⟨h1, ?_, fun p e => Nat.lt_of_lt_of_le (h3 p e) hF.2.2.1⟩
  rcases h2 with h2 | ⟨a, e, h2⟩
  · exact Or.inl h2
  · have e2 : tg f' a = tg f a := by unfold tg; rw [hF.2.2.2 a (h3 a e)]
    exact Or.inr ⟨a, e, by rw [e2]; exact h2⟩
theorem cSv.frz {E : EN} {f f' : RH} {a b : Int32} {v : Value} {t : Option Th} (h : cSv E f a b v t) (hF : Frz f f') : cSv E f' a b v t := by
  match t, h with
  | none, h => exact ⟨h.1, h.2.fz hF⟩
  | some t, h => exact ⟨h.1, h.2.1.frz hF, h.2.2⟩
theorem cSv.ok {E : EN} {f : RH} {a b : Int32} {v : Value} {t : Option Th} (h : cSv E f a b v t) : okc f v ∧ (a = 0 ∨ a = 1) := by
  match t, h with
  | none, h => exact ⟨h.2, Or.inl h.1⟩
  | some t, h =>
    refine ⟨⟨h.2.1.isR, h.2.1.isT, fun p e => ?_⟩, Or.inr h.1⟩
    rcases h.2.1.cls with ⟨_, c, _⟩ | ⟨q, c1, c2, _⟩
    · rw [c] at e; cases e
    · rw [c1] at e; cases e; exact c2
/-- the variables of the calls under way (head = the latest), of each so many -/
def cFr (E : EN) (f : RH) (s : CS) : List Fm → List Nat → Prop
  | [], [] => True
  | q :: r, n :: ns => (n ≤ 14 ∧ ∀ k, k < n → cVar E f (s.2.2.1 29 (14 * r.length + k)) (s.2.2.1 27 (14 * r.length + k)) (s.2.2.2 28 (14 * r.length + k)) (q.1 k)) ∧ cFr E f s r ns
  | _, _ => False
/-- the pile, from its ground on -/
def cPl (E : EN) (f : RH) (s : CS) (C : List Th) : Prop := C.length ≤ 8380 ∧ (∀ t ∈ C, ZW t) ∧ ∀ i, i < C.length → rcV E f (s.2.2.1 24 i) (s.2.2.2 25 i) (C.getD i (zI 0))
def cOut (s : CS) (out : List Int32) : Prop := s.1 53 = nI out.length ∧ ∀ i, i < out.length → i < 600 → s.2.2.1 52 i = (out.getD i 0).toInt8.toInt32
/-- what a run leaves as it is -/
def cKeep (s0 s : CS) : Prop := (∀ j, j ∉ [26, 36, 37, 38, 40, 41, 53, 54, 55, 56] → s.1 j = s0.1 j) ∧ s.2.1 = s0.2.1 ∧ (∀ j, j ∉ [24, 27, 29, 42, 46, 52] → s.2.2.1 j = s0.2.2.1 j) ∧ ∀ j, j ∉ [25, 28, 44] → s.2.2.2 j = s0.2.2.2 j
/-- all but top, calls, trouble -/
def cB (E : EN) (f0 : RH) (s0 : CS) (fuel : Nat) (Bb : Nat × Nat) (C : List Th) (fr : List Fm) (N : List Nat) (sh : Nat → Option Th) (ct : Ct) (out : List Int32) (s : CS) (f : RH) : Prop :=
  cPl E f s C ∧ cFr E f s fr N ∧ (∀ k, k < 8 → cSv E f (s.2.2.1 46 k) (s.2.2.1 42 k) (s.2.2.2 44 k) (sh k)) ∧ (s.1 37 = nI ct.2.2.1 ∧ s.1 38 = nI ct.1 ∧ s.1 39 = nI fuel ∧ s.1 40 = nI ct.2.1 ∧ s.1 41 = nI ct.2.2.2) ∧ (ct.1 ≤ fuel ∧ ct.2.2.1 ≤ 10 ∧ 300 * ct.2.2.2 ≤ ct.2.1 ∧ out.length + Bb.2 ≤ 9000 * ct.1) ∧ cOut s out ∧ cKeep s0 s ∧ (ez E ≤ f.2.2.2 ∧ f.2.2.2 ≤ f.1 ∧ Frz f0 f ∧ fuel ≤ 20000 ∧ Bb.1 + 20000 ≤ BM)
def cR (E : EN) (f0 : RH) (s0 : CS) (fuel : Nat) (Bb : Nat × Nat) (C : List Th) (fr : List Fm) (N : List Nat) (sh : Nat → Option Th) (ct : Ct) (out : List Int32) (s : CS) (f : RH) : Prop :=
  cB E f0 s0 fuel Bb C fr N sh ct out s f ∧ s.1 26 = nI C.length ∧ s.1 36 = nI fr.length ∧ ct.2.1 ≤ 3000 ∧ f.2.1 ≤ Bb.1 + 3 * ct.2.1 ∧ 1 ≤ fr.length ∧ fr.length ≤ 10
def cT (E : EN) (f0 : RH) (s0 : CS) (fuel : Nat) (Bb : Nat × Nat) (C : List Th) (fr : List Fm) (N : List Nat) (sh : Nat → Option Th) (ct : Ct) (out : List Int32) (tr : Nat × Int32 × Int32) (s : CS) (f : RH) : Prop :=
  cB E f0 s0 fuel Bb C fr N sh ct out s f ∧ (s.1 54 = nI tr.1 ∧ s.1 55 = tr.2.1 ∧ s.1 56 = tr.2.2) ∧ ct.2.1 ≤ 3400 ∧ f.2.1 ≤ Bb.1 + 3 * ct.2.1 + 800 ∧ (tr.1 ≤ 9 → ct.2.1 ≤ 3000)
theorem cVar.frz {E : EN} {f f' : RH} {a b : Int32} {v : Value} {t : Option Th} (h : cVar E f a b v t) (hF : Frz f f') : cVar E f' a b v t := by
  match t, h with
  | none, h => exact h
  | some t, h => exact ⟨h.1, h.2.1.frz hF, h.2.2⟩
theorem cFr.mv {E : EN} {f f' : RH} {s s' : CS} (hF : Frz f f') (h27 : s'.2.2.1 27 = s.2.2.1 27) (h28 : s'.2.2.2 28 = s.2.2.2 28) (h29 : s'.2.2.1 29 = s.2.2.1 29) : ∀ {fr : List Fm} {N : List Nat}, cFr E f s fr N → cFr E f' s' fr N
  | [], [], _ => trivial
  | q :: r, n :: ns, h => ⟨⟨h.1.1, fun k hk => by rw [h27, h28, h29]; exact (h.1.2 k hk).frz hF⟩, cFr.mv hF h27 h28 h29 h.2⟩
  | [], _ :: _, h => h.elim
  | _ :: _, [], h => h.elim
theorem cFr.len {E : EN} {f : RH} {s : CS} : ∀ {fr : List Fm} {N : List Nat}, cFr E f s fr N → N.length = fr.length
  | [], [], _ => rfl
  | _ :: _, _ :: _, h => congrArg (· + 1) (cFr.len h.2)
  | [], _ :: _, h => h.elim
  | _ :: _, [], h => h.elim
section CRn
variable {l : Launch} {E : EN} {w : CO} {d : Nat} {s s' s0 : CS} {f f' f0 : RH} {Q : KO → CS → RH → Prop} {fuel : Nat} {Bb : Nat × Nat} {C C0 A : List Th} {fr : List Fm} {N : List Nat} {sh : Nat → Option Th} {ct : Ct} {out : List Int32}
/-- what has come is newer than what was, and nothing old has changed -/
theorem EvC.fz {M : MR} {vs : List Value} (k : EvC l E w d M vs s f (fun o s' f' => Frz f f' → ez E ≤ f'.2.2.2 ∧ f'.2.2.2 ≤ f'.1 → Q o s' f')) : EvC l E w d M vs s f Q := fun h hW => (k h hW).mono fun _ _ q => by
  obtain ⟨s', f', a, b, c⟩ := q
  refine ⟨s', f', a, b, ?_⟩
  rcases c with ⟨r, c1, c2⟩ | ⟨k, a', c1, c2, c3⟩
  · exact Or.inl ⟨r, c1, c2 b ⟨a.cb0, a.cb1⟩⟩
  · exact Or.inr ⟨k, a', c1, c2, c3 b ⟨a.cb0, a.cb1⟩⟩
theorem cPl.cut (h : cPl E f s (C0 ++ A)) : cPl E f s C0 := by
  obtain ⟨h1, h2, h3⟩ := h
  rw [List.length_append] at h1 h3
  refine ⟨by omega, fun t ht => h2 t (List.mem_append_left _ ht), fun i hi => ?_⟩
  have := h3 i (by omega)
  rw [List.getD_eq_getElem?_getD, List.getElem?_append_left hi, ← List.getD_eq_getElem?_getD] at this
  exact this
/-- an order's frame -/
theorem cB.ord {md : Nat} (h : cB E f0 s0 fuel Bb (C0 ++ A) fr N sh ct out s f) (hF : Frz f f') (hcb : ez E ≤ f'.2.2.2 ∧ f'.2.2.2 ≤ f'.1) (hf : cfr JC C0.length s s') (h40 : s'.1 40 = nI md) (hmd : ct.2.1 ≤ md) : cB E f0 s0 fuel Bb C0 fr N sh (ct.1, md, ct.2.2) out s' f' := by
  obtain ⟨h1, h2, h3, ⟨a1, a2, a3, a4, a5⟩, ⟨b1, b2, b3, b4⟩, ⟨o1, o2⟩, ⟨k1, k2, k3, k4⟩, ⟨e1, e2, e3, e4, e5⟩⟩ := h
  obtain ⟨c1, c2, c3, c4⟩ := hf
  have hA : ∀ j, j ≠ 24 → s'.2.2.1 j = s.2.2.1 j := fun j hj => funext fun i => c3 j i (Or.inl hj)
  have hB : ∀ j, j ≠ 25 → s'.2.2.2 j = s.2.2.2 j := fun j hj => funext fun i => c4 j i (Or.inl hj)
  have h1' := h1.cut
  refine ⟨⟨h1'.1, h1'.2.1, fun i hi => ?_⟩, h2.mv hF (hA 27 (by decide)) (hB 28 (by decide)) (hA 29 (by decide)), fun k hk => ?_, ⟨by rw [c1 37 (by decide)]; exact a1, by rw [c1 38 (by decide)]; exact a2, by rw [c1 39 (by decide)]; exact a3, h40, by rw [c1 41 (by decide)]; exact a5⟩, ⟨b1, b2, Nat.le_trans b3 hmd, b4⟩, ⟨by rw [c1 53 (by decide)]; exact o1, fun i hi h6 => by rw [hA 52 (by decide)]; exact o2 i hi h6⟩, ⟨fun j hj => ?_, c2.trans k2, fun j hj => ?_, fun j hj => ?_⟩, ⟨hcb.1, hcb.2, e3.trans hF, e4, e5⟩⟩
  · rw [c3 24 i (Or.inr hi), c4 25 i (Or.inr hi)]
    exact (h1'.2.2 i hi).frz hF
  · rw [hA 46 (by decide), hA 42 (by decide), hB 44 (by decide)]
    exact (h3 k hk).frz hF
  · rw [c1 j (fun z => hj (by simp only [List.mem_cons, List.not_mem_nil, or_false] at z ⊢; omega))]
    exact k1 j hj
  · rw [hA j (fun z => hj (by rw [z]; decide))]
    exact k3 j hj
  · rw [hB j (fun z => hj (by rw [z]; decide))]
    exact k4 j hj
theorem cPl.app {v : Th} (h : cPl E f s C) (hl : C.length + 1 ≤ 8380) (hv : rcV E f (s.2.2.1 24 C.length) (s.2.2.2 25 C.length) v) (hw : ZW v) : cPl E f s (C ++ [v]) := by
  obtain ⟨h1, h2, h3⟩ := h
  refine ⟨by rw [List.length_append]; exact hl, fun t ht => ?_, fun i hi => ?_⟩
  · rcases List.mem_append.mp ht with q | q
    · exact h2 t q
    · rw [List.mem_singleton.mp q]; exact hw
  · rw [List.length_append] at hi
    have hi : i < C.length + 1 := hi
    rw [List.getD_eq_getElem?_getD]
    by_cases c : i < C.length
    · rw [List.getElem?_append_left c, ← List.getD_eq_getElem?_getD]; exact h3 i c
    · have e : i = C.length := by omega
      subst e
      rw [List.getElem?_append_right (Nat.le_refl _), Nat.sub_self]
      exact hv
/-- an order finds what it wants -/
theorem cR.ok (h : cR E f0 s0 fuel Bb (C0 ++ A) fr N sh ct out s f) : COk E C0.length ct.2.1 A s f := by
  obtain ⟨⟨⟨h1, h1b, h1c⟩, h2, h3, ⟨a1, a2, a3, a4, a5⟩, ⟨b1, b2, b3, b4⟩, h6, h7, ⟨e1, e2, e3, e4, e5⟩⟩, g1, g2, g3, g4, g5, g6⟩ := h
  rw [List.length_append] at g1 h1 h1c
  refine ⟨⟨g1, h1, a4, g3⟩, ⟨by omega, e1, e2⟩, fun t ht => h1b t (List.mem_append_right _ ht), fun i hi => ?_⟩
  have := h1c (C0.length + i) (by omega)
  rw [List.getD_eq_getElem?_getD, List.getElem?_append_right (by omega), Nat.add_sub_cancel_left, ← List.getD_eq_getElem?_getD] at this
  exact this
/-- what an order leaves -/
theorem cR.cop {r : Nat ⊕ Th} {place : Int32} {o : KO} (h : cR E f0 s0 fuel Bb (C0 ++ A) fr N sh ct out s f) (hl : C0.length + 1 ≤ 8380) (hF : Frz f f') (hcb : ez E ≤ f'.2.2.2 ∧ f'.2.2.2 ≤ f'.1) (hc : cop E C0.length ct.2.1 r place s f o s' f') :
    (∃ v, r = .inr v ∧ ¬ (3000 < ct.2.1 + zm v ∧ ¬ zk v = 0) ∧ o = .inl none ∧ cR E f0 s0 fuel Bb (C0 ++ [v]) fr N sh (ct.1, ct.2.1 + zm v, ct.2.2) out s' f')
    ∨ (∃ v, r = .inr v ∧ (3000 < ct.2.1 + zm v ∧ ¬ zk v = 0) ∧ o = .inr 9 ∧ cT E f0 s0 fuel Bb C0 fr N sh (ct.1, ct.2.1 + zm v, ct.2.2) out (11, place, 0) s' f')
    ∨ (∃ k, r = .inl k ∧ o = .inr 9 ∧ cT E f0 s0 fuel Bb C0 fr N sh ct out (k, place, 0) s' f') := by
  obtain ⟨hB, g1, g2, g3, g4, g5, g6⟩ := h
  obtain ⟨hf, hc⟩ := hc
  match r, hc with
  | .inl k, hc =>
    obtain ⟨rfl, c1, c2, c3, c4, c5⟩ := hc
    refine Or.inr (Or.inr ⟨k, rfl, rfl, ?_, ⟨c1, c2, c3⟩, by omega, by omega, fun _ => g3⟩)
    exact hB.ord hF hcb hf c4 (Nat.le_refl _)
  | .inr v, hc =>
    obtain ⟨w1, c1, c2, c3⟩ := hc
    have w2 := zw_zm w1
    have hB' := hB.ord hF hcb hf c1 (Nat.le_add_right _ _)
    by_cases c : 3000 < ct.2.1 + zm v ∧ ¬ zk v = 0
    · rw [if_pos c] at c3
      obtain ⟨rfl, d1, d2, d3⟩ := c3
      exact Or.inr (Or.inl ⟨v, rfl, c, rfl, hB', ⟨d1, d2, d3⟩, by show ct.2.1 + zm v ≤ 3400; omega, by show f'.2.1 ≤ Bb.1 + 3 * (ct.2.1 + zm v) + 800; omega, fun z => absurd z (by show ¬ 11 ≤ 9; decide)⟩)
    · rw [if_neg c] at c3
      obtain ⟨rfl, d1, d2⟩ := c3
      refine Or.inl ⟨v, rfl, c, rfl, ⟨hB'.1.app hl d2 w1, hB'.2⟩, by rw [d1, List.length_append]; rfl, ?_, ?_, by show f'.2.1 ≤ Bb.1 + 3 * (ct.2.1 + zm v); omega, g5, g6⟩
      · rw [hf.1 36 (by decide)]; exact g2
      · show ct.2.1 + zm v ≤ 3000
        by_cases hk : zk v = 0
        · have : zm v = 0 := by
            match v, hk with
            | .leaf (.inl _), _ => rfl
          omega
        · have := mt (fun z => (⟨z, hk⟩ : 3000 < ct.2.1 + zm v ∧ ¬ zk v = 0)) c
          omega
end CRn
