/-! THE COMPONENT: what was made is given -/
def cfr (J : List Nat) (n : Nat) (s s' : CS) : Prop := (∀ j, j ∉ J → s'.1 j = s.1 j) ∧ s'.2.1 = s.2.1 ∧ (∀ j i, (j ≠ 24 ∨ i < n) → s'.2.2.1 j i = s.2.2.1 j i) ∧ ∀ j i, (j ≠ 25 ∨ i < n) → s'.2.2.2 j i = s.2.2.2 j i
abbrev JC : List Nat := [26, 40, 54, 55, 56]
theorem cfr.rf (J : List Nat) (n : Nat) (s : CS) : cfr J n s s := ⟨fun _ _ => rfl, rfl, fun _ _ _ => rfl, fun _ _ _ => rfl⟩
theorem cfr.trans {J : List Nat} {n : Nat} {s s' s'' : CS} (h : cfr J n s s') (k : cfr J n s' s'') : cfr J n s s'' := ⟨fun j hj => (k.1 j hj).trans (h.1 j hj), k.2.1.trans h.2.1, fun j i hi => (k.2.2.1 j i hi).trans (h.2.2.1 j i hi), fun j i hi => (k.2.2.2 j i hi).trans (h.2.2.2 j i hi)⟩
theorem cfr.mono {J J' : List Nat} {n n' : Nat} {s s' : CS} (h : cfr J n s s') (hJ : ∀ j ∈ J, j ∈ J' := by decide) (hn : n' ≤ n := by omega) : cfr J' n' s s' := ⟨fun j hj => h.1 j (fun z => hj (hJ j z)), h.2.1, fun j i hi => h.2.2.1 j i (by omega), fun j i hi => h.2.2.2 j i (by omega)⟩
theorem uI_ne (s : CS) {j i : Nat} (v : Int32) (h : i ≠ j) : (uI s j v).1 i = s.1 i := if_neg h
theorem uA_ne (s : CS) {j k i n : Nat} (v : Int32) (h : ¬ (i = j ∧ n = k)) : (uA s j k v).2.2.1 i n = s.2.2.1 i n := if_neg h
theorem uT_ne (s : CS) {j k i n : Nat} (v : Value) (h : ¬ (i = j ∧ n = k)) : (uT s j k v).2.2.2 i n = s.2.2.2 i n := if_neg h
theorem cfr.uI (J : List Nat) (n : Nat) (s : CS) (j : Nat) (v : Int32) (hj : j ∈ J := by decide) : cfr J n s (uI s j v) := ⟨fun i hi => uI_ne s v (fun e => hi (e ▸ hj)), rfl, fun _ _ _ => rfl, fun _ _ _ => rfl⟩
theorem cfr.uA (J : List Nat) {n : Nat} (s : CS) {k : Nat} (v : Int32) (hk : n ≤ k) : cfr J n s (uA s 24 k v) := ⟨fun _ _ => rfl, rfl, fun j i hi => uA_ne s v (by omega), fun _ _ _ => rfl⟩
theorem cfr.uT (J : List Nat) {n : Nat} (s : CS) {k : Nat} (v : Value) (hk : n ≤ k) : cfr J n s (uT s 25 k v) := ⟨fun _ _ => rfl, rfl, fun _ _ _ => rfl, fun j i hi => uT_ne s v (by omega)⟩
def cpsh (s : CS) (n : Nat) (k : Int32) (v : Value) : CS := uI (uT (uA s 24 n k) 25 n v) 26 (nI (n + 1))
theorem cpsh_fr (J : List Nat) {n m : Nat} (s : CS) (k : Int32) (v : Value) (h : n ≤ m) (hJ : 26 ∈ J := by decide) : cfr J n s (cpsh s m k v) := ((cfr.uA J s k h).trans (cfr.uT J _ v h)).trans (cfr.uI J n _ 26 _ hJ)
theorem cpsh_n (s : CS) (n : Nat) (k : Int32) (v : Value) (i : Nat) : (cpsh s n k v).2.2.1 24 i = if i = n then k else s.2.2.1 24 i := by
  show (if 24 = 24 ∧ i = n then k else s.2.2.1 24 i) = _
  by_cases h : i = n <;> simp [h]
theorem cpsh_t (s : CS) (n : Nat) (k : Int32) (v : Value) (i : Nat) : (cpsh s n k v).2.2.2 25 i = if i = n then v else s.2.2.2 25 i := by
  show (if 25 = 25 ∧ i = n then v else s.2.2.2 25 i) = _
  by_cases h : i = n <;> simp [h]
def cwrong (s : CS) (k p : Int32) : CS := uI (uI (uI s 54 k) 55 p) 56 0
theorem cwrong_fr (J : List Nat) (n : Nat) (s : CS) (k p : Int32) (h1 : 54 ∈ J := by decide) (h2 : 55 ∈ J := by decide) (h3 : 56 ∈ J := by decide) : cfr J n s (cwrong s k p) := ((cfr.uI J n s 54 k h1).trans (cfr.uI J n _ 55 p h2)).trans (cfr.uI J n _ 56 0 h3)
/-- what has come of an order -/
def cop (E : EN) (n md : Nat) (r : Nat ⊕ Th) (place : Int32) (s : CS) (f : RH) (o : KO) (s' : CS) (f' : RH) : Prop := cfr JC n s s' ∧ match r with
  | .inl k => o = .inr 9 ∧ s'.1 54 = nI k ∧ s'.1 55 = place ∧ s'.1 56 = 0 ∧ s'.1 40 = nI md ∧ f'.2.1 ≤ f.2.1 + 800
  | .inr v => ZW v ∧ s'.1 40 = nI (md + zm v) ∧ f'.2.1 ≤ f.2.1 + 2 * zm v ∧ (if 3000 < md + zm v ∧ ¬ zk v = 0 then o = .inr 9 ∧ s'.1 54 = 11 ∧ s'.1 55 = place ∧ s'.1 56 = 0 else o = .inl none ∧ s'.1 26 = nI (n + 1) ∧ rcV E f' (s'.2.2.1 24 n) (s'.2.2.2 25 n) v)
section CG
variable {l : Launch} {E : EN} {w : CO} {d : Nat} {s : CS} {f : RH} {Q : KO → CS → RH → Prop}
theorem C_push (hst : l.stackTraces = false) {n : Nat} {v : Int32} (hn : s.1 26 = nI n) (h : n < 8400) (hQ : Q (.inl none) (cpsh s n v .null) f) : EvC l E w d MX3_push [.ref (w.1 3), .int v] s f Q := by
  refine eX3_push hst ?_
  rw [hn, nI_clamp (by omega), nI_1]
  exact ⟨inB_n h, inB_n h, Or.inl rfl, hQ⟩
theorem zis_le {a : List (List Int32)} (h : ∀ r ∈ a, r.length ≤ 64) : zis a ≤ 64 * a.length := by
  induction a with
  | nil => exact Nat.le_refl 0
  | cons x r ih =>
    rw [zis_cons, List.length_cons]
    have h1 := h x List.mem_cons_self
    have h2 := ih fun y hy => h y (List.mem_cons_of_mem _ hy)
    omega
/-- how many INTS a table has -/
theorem C_ints {z b p q : Nat} {a : List (List Int32)} (h1 : oc f p 30) (h2 : vl f p 204 = .ref q) (h3 : tg f q = some (.inr 11)) (h4 : ln f q = a.length) (h5 : ∀ i, i < a.length → rcI f.2.2.1 z b (vl f q i) (a.getD i [])) (ha : a.length ≤ 1000) (hr : ∀ r ∈ a, r.length ≤ 64) (hst : l.stackTraces = false) (hQ : Q (.inl (some (.int (nI (zis a))))) s f) : EvC l E w d MX33_ints [.ref p] s f Q := by
  refine eX33_ints hst ?_
  have main : ∀ m i, i + m = a.length → ExC l E w d MX33_ints 4 [some (.ref p), some (.int (nI (zis (a.take i)))), some (.int (nI i))] [] s f Q := by
    intro m
    induction m with
    | zero =>
      intro i hi
      have hi : i = a.length := hi
      subst hi
      refine vX33_ints_4 ⟨h1, q, h2, 11, h3, ?_⟩
      rw [h4]
      refine pk_le a.length a.length (fun _ => ?_) (fun c => by omega) rfl rfl
      rw [List.take_length]; exact hQ
    | succ m ih =>
      intro i hi
      refine vX33_ints_4 ⟨h1, q, h2, 11, h3, ?_⟩
      rw [h4, nI_clamp (by omega)]
      obtain ⟨r, e1, e2, e3, e4, e5⟩ := (h5 i (by omega)).vw
      refine pk_le a.length i (fun c => by omega) (fun _ => ⟨h1, q, h2, 11, by decide, h3, inB_n (by omega), r, e1, 0, e3, fun y ey => ?_⟩) rfl rfl
      have ey : y = nI (zis (a.take (i + 1))) := by
        rw [ey, e4, nI_add, take_succ_getD a [] i (by omega), zis_app, zis_cons, zis_nil]
        rfl
      rw [ey, nI_1]
      exact ih (i + 1) (by omega)
  exact main a.length 0 (by omega)
/-- what a thing that was made counts -/
theorem C_made {b p : Nat} {t : Th} (hst : l.stackTraces = false) (h : rcT f.2.2.1 (ez E) b true t (fun _ => .ref p)) (hk : ¬ zk t = 0) (ht : ∀ a, t = zT a → a.length ≤ 1000 ∧ ∀ r ∈ a, r.length ≤ 64) {P : KO → CS → RH → Prop} (hP : P (.inl (some (.int (nI (zm t))))) s f) : ∃ k8 : Nat, oc f p k8 ∧ ((k8 = 29 ∧ EvC l E w (d + 1) MX32_made [.ref p] s f P) ∨ (k8 = 30 ∧ EvC l E w (d + 1) MX33_made [.ref p] s f P) ∨ (k8 = 31 ∧ EvC l E w (d + 1) MX34_made [.ref p] s f P) ∨ (k8 = 32 ∧ EvC l E w (d + 1) MX35_made [.ref p] s f P)) := by
  match t, hk, h, ht, hP with
  | .leaf (.inl _), hk, _, _, _ => exact absurd rfl hk
  | .leaf (.inr (.inl a)), _, h, _, hP =>
    obtain ⟨p', q, e1, e2, e3, e4, e5, e6, e7, e8, e9⟩ := rcT.row h
    cases e1
    refine ⟨29, e3, Or.inl ⟨rfl, eX32_made hst ⟨e3, q, e4, 0, e6, ?_⟩⟩⟩
    rw [e7, nI_4l]; exact hP
  | .leaf (.inr (.inr a)), _, h, ht, hP =>
    obtain ⟨p', q, e1, e2, e3, e4, e5, e6, e7, e8⟩ := rcT.tab h
    cases e1
    obtain ⟨t1, t2⟩ := ht a rfl
    refine ⟨30, e3, Or.inr (Or.inl ⟨rfl, eX33_made hst ⟨e3, q, e4, 11, e6, e3, C_ints e3 e4 e6 e7 e8 t1 t2 hst ⟨_, rfl, ?_⟩⟩⟩)⟩
    rw [e7, show (4 : Int32) = nI 4 from rfl, pk_mul, nI_add, nI_add]; exact hP
  | .branch k s' e, _, h, _, hP =>
    obtain ⟨p', k', q, m, h1, h2, h3, h4, h5, h6, h7⟩ := h
    obtain ⟨c1, c2, c3⟩ := cellv h3
    obtain ⟨g1, g2, g3⟩ := cellv h6
    cases h1
    refine ⟨31, ⟨c1, c2⟩, Or.inr (Or.inr (Or.inl ⟨rfl, eX34_made hst ⟨⟨c1, c2⟩, q, by rw [c3]; exact h4, 4, g1, ?_⟩⟩))⟩
    rw [g2, nI_m2, nI_4l]; exact hP
/-- a thing is given for parts of the pile -/
theorem C_give (hst : l.stackTraces = false) {b p n parts md : Nat} {place : Int32} {t : Th} (h : rcT f.2.2.1 (ez E) b true t (fun _ => .ref p)) (hk : ¬ zk t = 0) (ht : ∀ a, t = zT a → a.length ≤ 1000 ∧ ∀ r ∈ a, r.length ≤ 64) (hz : zm t ≤ 100000) (hn : s.1 26 = nI (n + parts)) (h8 : n < 8400) (hp : parts ≤ 8400) (hmd : s.1 40 = nI md) (hm3 : md ≤ 3000)
    (hok : md + zm t ≤ 3000 → Q (.inl none) (cpsh (uI (uI s 40 (nI (md + zm t))) 26 (nI n)) n 0 (.ref p)) f) (hbad : 3000 < md + zm t → Q (.inr 9) (cwrong (uI s 40 (nI (md + zm t))) 11 place) f) : EvC l E w (d + 2) MX3_give_2 [.ref (w.1 3), .ref p, .int (nI parts), .int place] s f Q := by
  refine eX3_give_2 hst ⟨fun o s1 f2 => o = .inl (some (.int (nI (zm t)))) ∧ s1 = s ∧ f2 = f, ?_, C_made hst h hk ht ⟨rfl, rfl, rfl⟩⟩
  rintro o s1 f2 ⟨rfl, rfl, rfl⟩
  refine ⟨_, rfl, eX3_makes hst ?_⟩
  rw [hmd, nI_add]
  refine pk_le (md + zm t) 3000 (fun c => ⟨rfl, ?_⟩) (fun c => ?_) rfl rfl
  · have hT := rcT.isT h
    obtain ⟨p', e1, e2, e3⟩ := rcT.ocl h
    cases e1
    rw [if_neg hk] at e3
    have n32 : ¬ tg f2 p = some (.inl 32) := by
      rw [e3.1]
      rcases zk_c t with e | e | e | e
      · exact absurd e hk
      all_goals
        rw [e]; intro z; cases z
    have en : (uI (uI s1 40 (nI (md + zm t))) 26 (((uI s1 40 (nI (md + zm t))).1 26) - nI parts)) = (uI (uI s1 40 (nI (md + zm t))) 26 (nI n)) := by
      have e : ((uI s1 40 (nI (md + zm t))).1 26) = nI (n + parts) := hn
      rw [e, pk_sub (by omega), Nat.add_sub_cancel]
    rw [en]
    refine eX3_push_2 hst ⟨hT, fun z => absurd z n32, fun _ => ?_⟩
    have e26 : (uI (uI s1 40 (nI (md + zm t))) 26 (nI n)).1 26 = nI n := rfl
    rw [e26, nI_clamp (by omega), nI_1]
    exact ⟨inB_n h8, hT, fun z => absurd z n32, fun _ => ⟨inB_n h8, hT, rfl, hok c⟩⟩
  · exact C_wrong hst (Q := Q) (hbad c) (fun _ _ _ => rfl)
/-- an INT is given for parts of the pile -/
theorem C_giveI (hst : l.stackTraces = false) {n parts : Nat} {v : Int32} (hn : s.1 26 = nI (n + parts)) (h8 : n < 8400) (hp : parts ≤ 8400) (hQ : Q (.inl none) (cpsh (uI s 26 (nI n)) n v .null) f) : EvC l E w (d + 1) MX3_give [.ref (w.1 3), .int v, .int (nI parts)] s f Q := by
  refine eX3_give hst ?_
  rw [hn, pk_sub (by omega), Nat.add_sub_cancel]
  exact C_push hst rfl h8 ⟨rfl, hQ⟩
/-- the same, as what has come of an order -/
theorem cop.thing {n parts md : Nat} {p : Nat} {place : Int32} {t : Th} {s0 s : CS} {f0 f : RH} (hf : cfr JC n s0 s) (h : rcT f.2.2.1 (ez E) f.1 true t (fun _ => .ref p)) (hk : ¬ zk t = 0) (ht : ∀ a, t = zT a → a.length ≤ 1000 ∧ ∀ r ∈ a, r.length ≤ 64) (hz : zm t ≤ 100000) (hn : s.1 26 = nI (n + parts)) (h8 : n < 8400) (hp : parts ≤ 8400) (hmd : s.1 40 = nI md) (hm3 : md ≤ 3000) (hfb : f.2.1 ≤ f0.2.1 + 2 * zm t) (hZ : ZW t) (hst : l.stackTraces = false)
    (hQ : ∀ o s' f', cop E n md (.inr t) place s0 f0 o s' f' → Q o s' f') : EvC l E w (d + 2) MX3_give_2 [.ref (w.1 3), .ref p, .int (nI parts), .int place] s f (fun o s' f' => Q o s' (frz f')) := by
  refine C_give hst h hk ht hz hn h8 hp hmd hm3 (fun c => hQ _ _ _ ⟨?_, hZ, rfl, hfb, ?_⟩) (fun c => hQ _ _ _ ⟨?_, hZ, rfl, hfb, ?_⟩)
  · exact hf.trans (((cfr.uI JC n s 40 _).trans (cfr.uI JC n _ 26 _)).trans (cpsh_fr JC _ _ _ (Nat.le_refl n)))
  · rw [if_neg (by omega)]
    refine ⟨rfl, rfl, ?_⟩
    rw [cpsh_n, cpsh_t, if_pos rfl, if_pos rfl]
    exact (rcV_thing hk).mpr h
  · exact hf.trans ((cfr.uI JC n s 40 _).trans (cwrong_fr JC n _ _ _))
  · rw [if_pos ⟨c, hk⟩]
    exact ⟨rfl, rfl, rfl, rfl⟩
end CG
