/-! THE COMPONENT: what is built -/
/-- only new cells, so much spent -/
def Gw (f0 f : RH) (c : Nat) : Prop := f0.1 ≤ f.1 ∧ f.2.2.2 = f0.2.2.2 ∧ f.2.1 ≤ f0.2.1 + c ∧ ∀ a, a < f0.1 → f.2.2.1 a = f0.2.2.1 a
theorem Gw.rf (f : RH) : Gw f f 0 := ⟨Nat.le_refl _, rfl, Nat.le_refl _, fun _ _ => rfl⟩
theorem Gw.trans {f0 f1 f2 : RH} {c1 c2 : Nat} (h : Gw f0 f1 c1) (k : Gw f1 f2 c2) : Gw f0 f2 (c1 + c2) := ⟨Nat.le_trans h.1 k.1, k.2.1.trans h.2.1, by have := h.2.2.1; have := k.2.2.1; omega, fun a ha => (k.2.2.2 a (Nat.lt_of_lt_of_le ha h.1)).trans (h.2.2.2 a ha)⟩
theorem Gw.le {f0 f : RH} {c c' : Nat} (h : Gw f0 f c) (hc : c ≤ c' := by omega) : Gw f0 f c' := ⟨h.1, h.2.1, Nat.le_trans h.2.2.1 (Nat.add_le_add_left hc _), h.2.2.2⟩
theorem Gw.push (f : RH) (x : (Nat ⊕ Nat) × Nat × (Nat → Value)) (n : Nat) : Gw f (fpush f x n) (n + 1) := ⟨Nat.le_succ _, rfl, Nat.le_refl _, fun a ha => cell_push' f x n (by omega)⟩
theorem Gw.exc (f : RH) : Gw f (fexc f) 225 := ⟨Nat.le_add_right _ _, rfl, Nat.le_refl _, fun _ _ => rfl⟩
theorem Gw.set {f0 f : RH} {c a j : Nat} {v : Value} (h : Gw f0 f c) (ha : f0.1 ≤ a) : Gw f0 (fset f a j v) c := ⟨h.1, h.2.1, h.2.2.1, fun b hb => (if_neg (by omega)).trans (h.2.2.2 b hb)⟩
theorem Gw.chg {f0 f : RH} {c n : Nat} (h : Gw f0 f c) : Gw f0 (fchg f n) (c + n) := ⟨h.1, h.2.1, by have := h.2.2.1; show f.2.1 + n ≤ _; omega, h.2.2.2⟩
theorem Gw.tgE {f0 f : RH} {c a : Nat} (h : Gw f0 f c) (ha : a < f0.1) : tg f a = tg f0 a := by unfold tg; rw [h.2.2.2 a ha]
theorem Gw.lnE {f0 f : RH} {c a : Nat} (h : Gw f0 f c) (ha : a < f0.1) : ln f a = ln f0 a := by unfold ln; rw [h.2.2.2 a ha]
theorem Gw.vlE {f0 f : RH} {c a : Nat} (h : Gw f0 f c) (ha : a < f0.1) (j : Nat) : vl f a j = vl f0 a j := by unfold vl; rw [h.2.2.2 a ha]
theorem Gw.ocE {f0 f : RH} {c a k : Nat} (h : Gw f0 f c) (ha : a < f0.1) (hk : oc f0 a k) : oc f a k := ⟨by rw [h.tgE ha]; exact hk.1, by rw [h.lnE ha]; exact hk.2⟩
theorem Gw.rI {f0 f : RH} {c z b : Nat} {v : Value} {l : List Int32} (h : Gw f0 f c) (hb : b ≤ f0.1) (k : rcI f0.2.2.1 z b v l) : rcI f.2.2.1 z b v l := rcI_mono (Nat.le_refl b) (fun a ha => h.2.2.2 a (Nat.lt_of_lt_of_le ha hb)) k
theorem Gw.rT {f0 f : RH} {c z b : Nat} {v : Value} {t : Th} (h : Gw f0 f c) (hb : b ≤ f0.1) (k : rcT f0.2.2.1 z b true t (fun _ => v)) : rcT f.2.2.1 z b true t (fun _ => v) := rcT_mono (Nat.le_refl b) (fun a ha => h.2.2.2 a (Nat.lt_of_lt_of_le ha hb)) t true _ k
theorem rcI_up {c : Nat → CC} {z b b' : Nat} (hb : b ≤ b') {v : Value} {l : List Int32} (h : rcI c z b v l) : rcI c z b' v l := rcI_mono hb (fun _ _ => rfl) h
theorem rcT_up {c : Nat → CC} {z b b' : Nat} (hb : b ≤ b') {v : Value} {t : Th} (h : rcT c z b true t (fun _ => v)) : rcT c z b' true t (fun _ => v) := rcT_mono hb (fun _ _ => rfl) t true _ h
/-- a row of INTS in the making -/
def lv (l : List Int32) : Nat → Value := fun i => .int (l.getD i 0)
def fA (f : RH) (n : Nat) (l : List Int32) : RH := fpush f (.inr 0, n, lv l) n
theorem fnewA0 (f : RH) (n : Nat) : fnewA f 0 n = fA f n [] := rfl
theorem getD_ge {α : Type} (l : List α) (d : α) {i : Nat} (h : l.length ≤ i) : l.getD i d = d := by rw [List.getD, List.getElem?_eq_none h]; rfl
theorem lv_snoc (l : List Int32) (v : Int32) : vup (lv l) l.length (.int v) = lv (l ++ [v]) := by
  funext i
  show (if i = l.length then Value.int v else lv l i) = .int ((l ++ [v]).getD i 0)
  by_cases h : i = l.length
  · rw [if_pos h, h, getD_last]
  · rw [if_neg h]
    by_cases h2 : i < l.length
    · rw [getD_app1 _ _ h2]; rfl
    · rw [getD_ge (l ++ [v]) 0 (by rw [List.length_append]; show l.length + 1 ≤ i; omega)]
      show Value.int (l.getD i 0) = _
      rw [getD_ge l 0 (by omega)]
theorem lvl_set (l : List Int32) (k : Nat) (v : Int32) (hk : k < l.length) : vup (lv l) k (.int v) = lv (l.set k v) := by
  funext i
  show (if i = k then Value.int v else lv l i) = .int ((l.set k v).getD i 0)
  by_cases h2 : i < l.length
  · rw [getD_lt (l := l.set k v) 0 (by rw [List.length_set]; exact h2), List.getElem_set]
    by_cases h : i = k
    · rw [if_pos h, if_pos h.symm]
    · rw [if_neg h, if_neg (fun z => h z.symm)]
      show Value.int (l.getD i 0) = _
      rw [getD_lt _ h2]
  · rw [if_neg (by omega), getD_ge (l.set k v) 0 (by rw [List.length_set]; omega)]
    show Value.int (l.getD i 0) = _
    rw [getD_ge l 0 (by omega)]
theorem fA_snoc (f : RH) (n : Nat) (l : List Int32) (v : Int32) : fset (fA f n l) f.1 l.length (.int v) = fA f n (l ++ [v]) := by
  unfold fA
  rw [fset_push, lv_snoc]
theorem fA_set (f : RH) (n k : Nat) (l : List Int32) (v : Int32) (hk : k < l.length) : fset (fA f n l) f.1 k (.int v) = fA f n (l.set k v) := by
  unfold fA
  rw [fset_push, lvl_set _ _ _ hk]
theorem fA_tg (f : RH) (n : Nat) (l : List Int32) : tg (fA f n l) f.1 = some (.inr 0) ∧ ln (fA f n l) f.1 = n ∧ ∀ i, vl (fA f n l) f.1 i = .int (l.getD i 0) := cellv (cell_push f (.inr 0, n, lv l) n)
theorem fA_gw (f : RH) (n : Nat) (l : List Int32) : Gw f (fA f n l) (n + 1) := Gw.push f _ n
theorem fA_rI {E : EN} (f : RH) (n : Nat) (l : List Int32) (hz : ez E ≤ f.1) (hl : l.length = n) : rcI (fA f n l).2.2.1 (ez E) (fA f n l).1 (.ref f.1) l :=
  rcI.of ⟨hz, Nat.lt_succ_self _⟩ (fA_tg f n l).1 (by rw [(fA_tg f n l).2.1, hl]) (fun i _ => (fA_tg f n l).2.2 i)
theorem fA_cb (f : RH) (n : Nat) (l : List Int32) : (fA f n l).2.2.2 = f.2.2.2 := rfl
/-- what lies elsewhere stays when one cell is changed -/
theorem rcI_set {f : RH} {z b a j : Nat} {v w : Value} {l : List Int32} (h : rcI f.2.2.1 z b v l) (ha : ¬ tg f a = some (.inr 0)) : rcI (fset f a j w).2.2.1 z b v l := by
  obtain ⟨p, g, h1, h2, h3, h4⟩ := h
  refine ⟨p, g, h1, h2, ?_, h4⟩
  have : p ≠ a := fun e => ha (by unfold tg; rw [← e, h3]; rfl)
  show (if p = a then _ else f.2.2.1 p) = _
  rw [if_neg this]; exact h3
theorem rcI_setA {f : RH} {z b a j : Nat} {v w : Value} {l : List Int32} (h : rcI f.2.2.1 z b v l) (ha : b ≤ a) : rcI (fset f a j w).2.2.1 z b v l := by
  obtain ⟨p, g, h1, h2, h3, h4⟩ := h
  refine ⟨p, g, h1, h2, ?_, h4⟩
  show (if p = a then _ else f.2.2.1 p) = _
  rw [if_neg (by omega)]; exact h3
theorem rcT_setA {f : RH} {z b a j : Nat} {v w : Value} {t : Th} (h : rcT f.2.2.1 z b true t (fun _ => v)) (ha : b ≤ a) : rcT (fset f a j w).2.2.1 z b true t (fun _ => v) := rcT_mono (Nat.le_refl b) (fun x hx => if_neg (by omega)) t true _ h
theorem fset_tg {f : RH} {a j : Nat} {v : Value} {t : Nat ⊕ Nat} (h : tg f a = some t) : tg (fset f a j v) a = some t ∧ ln (fset f a j v) a = ln f a ∧ ∀ i, vl (fset f a j v) a i = if i = j then v else vl f a i := by
  have hc := cellv' h
  have : (fset f a j v).2.2.1 a = some (t, ln f a, vup (vl f a) j v) := by
    show (if a = a then (f.2.2.1 a).map _ else _) = _
    rw [if_pos rfl, hc]; rfl
  obtain ⟨c1, c2, c3⟩ := cellv this
  exact ⟨c1, c2, fun i => c3 i⟩
theorem fset_ne {f : RH} {a j b : Nat} {v : Value} (h : b ≠ a) : tg (fset f a j v) b = tg f b ∧ ln (fset f a j v) b = ln f b ∧ ∀ i, vl (fset f a j v) b i = vl f b i := by
  have : (fset f a j v).2.2.1 b = f.2.2.1 b := if_neg h
  refine ⟨by unfold tg; rw [this], by unfold ln; rw [this], fun i => by unfold vl; rw [this]⟩
theorem fnew_new (f : RH) (k : Nat) : tg (fnew f k) f.1 = some (.inl k) ∧ ln (fnew f k) f.1 = 0 := by
  obtain ⟨a, b, _⟩ := cellv (cell_push f (.inl k, 0, fun j => defaultValue (FY j)) (CZ k))
  exact ⟨a, b⟩
theorem fnew_gw (f : RH) (k : Nat) : Gw f (fnew f k) (CZ k + 1) := Gw.push f _ _
section CN0
variable {l : Launch} {E : EN} {w : CO} {d : Nat} {s : CS} {f : RH} {Q : KO → CS → RH → Prop}
theorem C_obj (hst : l.stackTraces = false) {p : Nat} (hQ : Q (.inl none) s f) : EvC l E w d MX31_init [.ref p] s f Q := eX31_init hst hQ
/-- a Row's object gets its INTS -/
theorem C_row (hst : l.stackTraces = false) {p q : Nat} {a : List Int32} (hp : oc f p 29) (hb : f.2.2.2 ≤ p) (hlt : p < f.1) (hI : rcI f.2.2.1 (ez E) f.1 (.ref q) a) (hQ : ∀ f', f' = fset f p 203 (.ref q) → rcT f'.2.2.1 (ez E) f'.1 true (zR a) (fun _ => .ref p) → Q (.inl none) s f') : EvC l E w (d + 1) MX32_init [.ref p, .ref q] s f Q := by
  refine eX32_init hst (C_obj hst ⟨rfl, hp, hb, fun f3 e => hQ f3 e ?_⟩)
  subst e
  obtain ⟨c1, c2, c3⟩ := fset_tg (j := 203) (v := .ref q) hp.1
  refine ⟨p, vl (fset f p 203 (.ref q)) p, rfl, hlt, by rw [cellv' c1, c2, hp.2], ?_⟩
  rw [c3, if_pos rfl]
  exact rcI_set hI (by rw [hp.1]; intro z; cases z)
/-- a Table's object gets its rows -/
theorem C_tab (hst : l.stackTraces = false) {p q : Nat} {a : List (List Int32)} (hp : oc f p 30) (hb : f.2.2.2 ≤ p) (hlt : p < f.1) (hq : tg f q = some (.inr 11)) (hql : ln f q = a.length) (hqb : q < f.1) (hI : ∀ i, i < a.length → rcI f.2.2.1 (ez E) f.1 (vl f q i) (a.getD i [])) (hQ : ∀ f', f' = fchg (fset f p 204 (.ref q)) (3 * a.length + 1) → rcT f'.2.2.1 (ez E) f'.1 true (zT a) (fun _ => .ref p) → Q (.inl none) s f') : EvC l E w (d + 1) MX33_init [.ref p, .ref q] s f Q := by
  refine EvC.cw fun hcw => ?_
  refine eX33_init hst (C_obj hst ⟨rfl, hp, hb, hq, fun f3 e => hQ f3 (by rw [e, hql]) ?_⟩)
  subst e
  obtain ⟨c1, c2, c3⟩ := fset_tg (j := 204) (v := .ref q) hp.1
  have hne : q ≠ p := fun z => by rw [z, hp.1] at hq; cases hq
  obtain ⟨n1, n2, n3⟩ := fset_ne (f := f) (j := 204) (v := .ref q) hne
  refine ⟨p, vl (fset f p 204 (.ref q)) p, q, vl (fset f p 204 (.ref q)) q, rfl, ⟨Nat.le_trans hcw.1 hb, hlt⟩, ?_, ?_, hqb, ?_, fun i hi => ?_⟩
  · show (fset f p 204 (.ref q)).2.2.1 p = _
    rw [cellv' c1, c2, hp.2]
  · rw [c3, if_pos rfl]
  · show (fset f p 204 (.ref q)).2.2.1 q = _
    rw [cellv' (n1.trans hq), n2, hql]
  · rw [n3]
    exact rcI_set (hI i hi) (by rw [hp.1]; intro z; cases z)
/-- what has come, asked for as a call's end -/
theorem cop.kp {n md : Nat} {r : Nat ⊕ Th} {place : Int32} {s0 s' : CS} {f0 f' : RH} {o : KO} (hQ : ∀ o s' f', cop E n md r place s0 f0 o s' f' → Q o s' f') (h : cop E n md r place s0 f0 o s' f') : KP o (fun r => r = none ∧ Q (.inl none) s' f') (fun k => Q (.inr k) s' f') := by
  have h0 := hQ o s' f' h
  have ho : o = .inr 9 ∨ o = .inl none := by
    obtain ⟨_, h2⟩ := h
    cases r with
    | inl k => exact Or.inl h2.1
    | inr v =>
      obtain ⟨_, _, _, h3⟩ := h2
      split at h3
      · exact Or.inl h3.1
      · exact Or.inr h3.1
  rcases ho with rfl | rfl
  · exact h0
  · exact ⟨rfl, h0⟩
/-- a trouble, as what has come of an order -/
theorem C_wrongO (hst : l.stackTraces = false) {n md k : Nat} {place kk : Int32} {s0 : CS} {f0 : RH} (hkk : kk = nI k) (hf : cfr JC n s0 s) (hmd : s.1 40 = nI md) (hb : f.2.1 ≤ f0.2.1 + 800) (hQ : ∀ o s' f', cop E n md (.inl k) place s0 f0 o s' f' → Q o s' f') : EvC l E w d MX3_wrong [.ref (w.1 3), .int kk, .int place] s f (fun o s1 f2 => KP o (fun r => r = some (.ref (w.1 9)) ∧ Q (.inr 9) s1 (frz f2)) (fun k => Q (.inr k) s1 (frz f2))) := by
  refine C_wrong hst (Q := fun o s f => Q o s (frz f)) (hQ _ _ _ ⟨hf.trans (cwrong_fr JC n s kk place), rfl, hkk, rfl, rfl, hmd, hb⟩) (fun _ _ _ => rfl)
/-- the value on the pile: null, or a thing -/
theorem rcV.isR {n : Int32} {v : Value} {t : Th} (h : rcV E f n v t) : isR v = true := by
  match t, h with
  | .leaf (.inl x), h => rw [h.1]; rfl
  | .leaf (.inr (.inl a)), h => obtain ⟨p, h1, _⟩ := rcT.ocl h; rw [h1]; rfl
  | .leaf (.inr (.inr a)), h => obtain ⟨p, h1, _⟩ := rcT.ocl h; rw [h1]; rfl
  | .branch _ _ _, h => obtain ⟨p, h1, _⟩ := rcT.ocl h; rw [h1]; rfl
theorem rcV.isT {n : Int32} {v : Value} {t : Th} (h : rcV E f n v t) : isT f v := by
  match t, h with
  | .leaf (.inl x), h => exact Or.inl h.1
  | .leaf (.inr (.inl a)), h => exact rcT.isT h
  | .leaf (.inr (.inr a)), h => exact rcT.isT h
  | .branch _ _ _, h => exact rcT.isT h
/-- which class a value is of -/
theorem rcV.cls {n : Int32} {v : Value} {t : Th} (h : rcV E f n v t) : (zk t = 0 ∧ v = .null ∧ n = zv t) ∨ ∃ p : Nat, v = .ref p ∧ p < f.2.2.2 ∧ ¬ zk t = 0 ∧ oc f p (28 + zk t) ∧ RT E f v t := by
  match t, h with
  | .leaf (.inl x), h => exact Or.inl ⟨rfl, h.1, h.2⟩
  | .leaf (.inr (.inl a)), h => obtain ⟨p, h1, h2, h3⟩ := rcT.ocl h; exact Or.inr ⟨p, h1, h2, (by show ¬ 1 = 0; decide), h3, h⟩
  | .leaf (.inr (.inr a)), h => obtain ⟨p, h1, h2, h3⟩ := rcT.ocl h; exact Or.inr ⟨p, h1, h2, (by show ¬ 2 = 0; decide), h3, h⟩
  | .branch _ _ _, h => obtain ⟨p, h1, h2, h3⟩ := rcT.ocl h; exact Or.inr ⟨p, h1, h2, (by show ¬ 3 = 0; decide), h3, h⟩
end CN0
